set_option maxRecDepth 100000
/-! rules of the walk at the level of objects -/
/-- the fields from 91 on, classes and arrays are the same -/
def SameJ (g g' : GH) : Prop := gcls g' = gcls g ∧ glen g' = glen g ∧ gai g' = gai g ∧ gar g' = gar g ∧ ∀ F n, 91 ≤ F → gfi g' F n = gfi g F n ∧ gfr g' F n = gfr g F n
section SameJ
variable {g g' : GH}
theorem SameJ.fi {F n : Nat} {x : Int} (hF : F < 91) : SameJ g (gsfi g F n x) := ⟨rfl, rfl, rfl, rfl, fun f m hf => ⟨if_neg (fun z => by omega), rfl⟩⟩
theorem SameJ.fr {F n : Nat} {x : Option Nat} (hF : F < 91) : SameJ g (gsfr g F n x) := ⟨rfl, rfl, rfl, rfl, fun f m hf => ⟨rfl, if_neg (fun z => by omega)⟩⟩
theorem SameJ.at (h : SameJ g g') {n c : Nat} (k : GAt g n c) : GAt g' n c := ⟨by rw [h.1]; exact k.1, k.2⟩
theorem SameJ.gO (h : SameJ g g') {r : Option Nat} (k : gokO g r = true) : gokO g' r = true := by
  cases r with
  | none => rfl
  | some n =>
    have h1 : 1 ≤ gcls g n ∧ gcls g n < 100 := of_decide_eq_true k
    exact decide_eq_true (by rw [h.1]; exact h1)
theorem SameJ.pis (h : SameJ g g') {a cap : Nat} {s : List Int} (k : PIs g a s cap) : PIs g' a s cap := ⟨by rw [h.1]; exact k.1, by rw [h.2.1]; exact k.2.1, k.2.2.1, fun j hj => by rw [h.2.2.1]; exact k.2.2.2.1 j hj, k.2.2.2.2⟩
theorem SameJ.ris (h : SameJ g g') {a cap : Nat} {xs : List (Option Nat)} (k : RIs g a xs cap) : RIs g' a xs cap := ⟨by rw [h.2.1]; exact k.1, k.2.1, fun j hj => by rw [h.2.2.2.1]; exact k.2.2.1 j hj, fun j => by rw [h.2.2.2.1]; exact h.gO (k.2.2.2 j)⟩
theorem SameJ.i (h : SameJ g g') {F n : Nat} (hF : Nat.ble 91 F = true) : gfi g' F n = gfi g F n := (h.2.2.2.2 F n (Nat.le_of_ble_eq_true hF)).1
theorem SameJ.r (h : SameJ g g') {F n : Nat} (hF : Nat.ble 91 F = true) : gfr g' F n = gfr g F n := (h.2.2.2.2 F n (Nat.le_of_ble_eq_true hF)).2
theorem ObjIs.sj {ρ : Nat → Nat} {ν : Nat → List Nat} {H H' : Nat → Obj} {t n : Nat} {o : Obj} (h : SameJ g g') (hl : ∀ l xs mc, H l = oLl xs mc → H' l = oLl xs mc) (q : ObjIs g ρ ν H t n o) : ObjIs g' ρ ν H' t n o := by
  obtain ⟨tag, is, xs, a, M⟩ := o
  match tag, q with
  | 0, q => exact q.elim
  | 1, q =>
    obtain ⟨b, h1, h2⟩ := q
    exact ⟨b, ⟨by rw [h.1]; exact h1.1, (h.i rfl).trans h1.2.1, (h.r rfl).trans h1.2.2.1, h.pis h1.2.2.2⟩, h2⟩
  | 2, q =>
    obtain ⟨b, ⟨h1, h2, h3, h4, h5, h6, h7⟩, h8⟩ := q
    exact ⟨b, ⟨h.at h1, (h.i rfl).trans h2, (h.i rfl).trans h3, (h.r rfl).trans h4, h5, h.pis h6, h7⟩, h8⟩
  | 3, q =>
    obtain ⟨b, ⟨h1, h2, h3, h4, h5⟩, h6, h7⟩ := q
    exact ⟨b, ⟨h.at h1, (h.i rfl).trans h2, (h.r rfl).trans h3, h4.imp (fun z => ⟨h.at z.1, z.2⟩) id, h.ris h5⟩, h6, by rw [h.i rfl]; exact h7⟩
  | 4, q =>
    obtain ⟨⟨h1, h2, h3, h4, h5, h6, h7, h8⟩, h9, h10, h11⟩ := q
    exact ⟨⟨h.at h1, (h.i rfl).trans h2, (h.r rfl).trans h3, (h.r rfl).trans h4, h5, h6, fun i m hm => by
      obtain ⟨b1, b2, b3, b4⟩ := h7 i m hm
      exact ⟨h.at b1, (h.r rfl).trans b2, (h.r rfl).trans b3, (h.r rfl).trans b4⟩, fun i => h.gO (h8 i)⟩, h9, (h.i rfl).trans h10, h11⟩
  | 5, q =>
    match is, q with
    | [], q => exact q.elim
    | [_], q => exact q.elim
    | [_, _], q => exact q.elim
    | _ :: _ :: _ :: _ :: _, q => exact q.elim
    | [k, e, lr], q =>
      obtain ⟨h1, h2, ys, mc, h3, h4, h5, h6⟩ := q
      refine ⟨h.at h1, (h.r rfl).trans h2, ys, mc, hl _ _ _ h3, h4, h5, fun z => ?_⟩
      obtain ⟨⟨i1, i2, i3, i4, i5, i6⟩, i7⟩ := h6 z
      exact ⟨⟨h.at i1, (h.r rfl).trans i2, (h.i rfl).trans i3, (h.i rfl).trans (i4.trans (h.i rfl).symm), (h.r rfl).trans i5, (h.r rfl).trans i6⟩, i7⟩
  | 6, q =>
    obtain ⟨b, hh, ⟨h1, h2, h3, h4, h5, h6, h7, h8, h9, h10, h11⟩, h12⟩ := q
    exact ⟨b, hh, ⟨h.at h1, (h.i rfl).trans h2, (h.i rfl).trans h3, (h.r rfl).trans h4, h.at h5, by rw [h.2.1]; exact h6, h7, fun j hj => by rw [h.2.2.2.1]; exact h8 j hj, fun j hj hj2 => by rw [h.2.2.2.1]; exact h9 j hj hj2, fun j => by rw [h.2.2.2.1]; exact h.gO (h10 j), h11⟩, h12⟩
  | 7, q =>
    obtain ⟨N, ⟨lo, hi, L, R, P, rt, h1, h2, ⟨a1, a2, a3, a4, a5, a6, a7⟩, h4, h5, h6⟩, h7, h8⟩ := q
    refine ⟨N, ⟨lo, hi, L, R, P, rt, h1, h2, ⟨h.at a1, (h.r rfl).trans a2, (h.r rfl).trans a3, fun k hk => ?_, a5, fun k hk => h.gO (a6 k hk), a7⟩, fun k hk => by rw [h.i rfl]; exact h4 k hk, by rw [h.i rfl, h.i rfl]; exact h5, by rw [h.i rfl, h.i rfl]; exact h6⟩, h7, by rw [h.i rfl]; exact h8⟩
    obtain ⟨b1, b2, b3, b4, b5, b6⟩ := a4 k hk
    exact ⟨h.at b1, (h.r rfl).trans b2, (h.r rfl).trans b3, (h.r rfl).trans b4, (h.r rfl).trans b5, (h.r rfl).trans b6⟩
  | 8, q =>
    obtain ⟨b, u, ⟨h1, h2, h3, h4, h5, h6, h7⟩, h8⟩ := q
    exact ⟨b, u, ⟨h.at h1, (h.i rfl).trans h2, (h.r rfl).trans h3, h.at h4, by rw [h.2.1]; exact h5, by rw [h.2.2.1]; exact h6, h7⟩, h8⟩
  | 9, q =>
    obtain ⟨h1, h2, h3⟩ := q
    exact ⟨h.at h1, by rw [h.2.1]; exact h2, fun j hj => by rw [h.2.2.1]; exact h3 j hj⟩
  | 10, q =>
    obtain ⟨h1, h2, h3, h4⟩ := q
    exact ⟨h.at h1, h2, by rw [h.2.1]; exact h3, fun j hj => by rw [h.2.2.2.1]; exact h4 j hj⟩
  | 11, q => exact ⟨h.at q.1, q.2⟩
  | 12, q =>
    obtain ⟨h1, h2, h3⟩ := q
    exact ⟨h.at h1, h2, fun F hF => ⟨(h.2.2.2.2 F _ hF).1.trans (h3 F hF).1, (h.2.2.2.2 F _ hF).2.trans (h3 F hF).2⟩⟩
  | k + 13, q => exact q.elim
end SameJ
/-- a value put into a field of a table -/
def upI (fi : Nat → Nat → Int) (F n : Nat) (x : Int) (f m : Nat) : Int := if f = F ∧ m = n then x else fi f m
def upR (fr : Nat → Nat → Option Nat) (F n : Nat) (x : Option Nat) (f m : Nat) : Option Nat := if f = F ∧ m = n then x else fr f m
/-- the class of an object's cell -/
def ocls (o : Obj) : Nat := match o.1 with
  | 1 => 13
  | 2 => 14
  | 3 => 16
  | 4 => 18
  | 5 => 19
  | 6 => 15
  | 7 => 21
  | 8 => 17
  | 9 => 100
  | _ => o.2.2.2.1
theorem ObjIs.cls {g : GH} {ρ : Nat → Nat} {ν : Nat → List Nat} {H : Nat → Obj} {t n : Nat} {o : Obj} (q : ObjIs g ρ ν H t n o) : gcls g n = ocls o ∧ ocls o ≠ 0 := by
  obtain ⟨tag, is, xs, a, M⟩ := o
  match tag, q with
  | 0, q => exact q.elim
  | 1, q =>
    obtain ⟨b, h1, h2⟩ := q
    exact ⟨h1.1, fun z => by cases z⟩
  | 2, q =>
    obtain ⟨b, h1, h2⟩ := q
    exact ⟨h1.1.1, fun z => by cases z⟩
  | 3, q =>
    obtain ⟨b, h1, h2⟩ := q
    exact ⟨h1.1.1, fun z => by cases z⟩
  | 4, q => exact ⟨q.1.1.1, fun z => by cases z⟩
  | 5, q =>
    match is, q with
    | [], q => exact q.elim
    | [_], q => exact q.elim
    | [_, _], q => exact q.elim
    | _ :: _ :: _ :: _ :: _, q => exact q.elim
    | [k, e, lr], q => exact ⟨q.1.1, fun z => by cases z⟩
  | 6, q =>
    obtain ⟨b, hh, h1, h2⟩ := q
    exact ⟨h1.1.1, fun z => by cases z⟩
  | 7, q =>
    obtain ⟨N, ⟨lo, hi, L, R, P, rt, h1, h2, ⟨a1, a2⟩, h4⟩, h7⟩ := q
    exact ⟨a1.1, fun z => by cases z⟩
  | 8, q =>
    obtain ⟨b, u, h1, h2⟩ := q
    exact ⟨h1.1.1, fun z => by cases z⟩
  | 9, q => exact ⟨q.1.1, fun z => by cases z⟩
  | 10, q => exact ⟨q.1.1, fun z => by have := q.2.1.1; have z : a = 0 := z; omega⟩
  | 11, q => exact ⟨q.1.1, fun z => by have := q.2.1; have z : a = 0 := z; omega⟩
  | 12, q => exact ⟨q.1.1, fun z => by have := q.2.1; have z : a = 0 := z; omega⟩
  | k + 13, q => exact q.elim
section BW
variable {d i a n : Nat} {b : Int} {M : GMeth} {ls : GL} {st : List GV} {H : Nat → Obj} {fi : Nat → Nat → Int} {fr : Nat → Nat → Option Nat} {t : Nat} {S : BS} {Q : GO → BS → Prop} {g : GH} {ρ : Nat → Nat} {ν : Nat → List Nat}
theorem RepI.cls (h : RepI g ρ ν (H, fi, fr, t)) (hW : GWf g) {o : Obj} (hn : H n = o) (ho : (o.1 == 0) = false) : gcls g n = ocls o ∧ ocls o ≠ 0 := by
  cases h1 : o.1 == 1 with
  | false => exact (h.obj hn ho h1).2.1.cls
  | true =>
    rcases Nat.lt_or_ge n 1000 with w | w
    · have e : o = Hk n := hn.symm.trans (h.2.2.1 n w).1
      unfold Hk at e
      split at e
      · obtain ⟨a, h1, -⟩ := h.str hW (hn.trans e)
        rw [e]
        exact ⟨h1.1, fun z => by cases z⟩
      · rw [e] at ho; cases ho
    · have hlt : n < gsz g := by
        rcases Nat.lt_or_ge n (gsz g) with w2 | w2
        · exact w2
        · rw [show o = oNil from hn.symm.trans (h.2.1 n w2)] at ho; cases ho
      have hne : (H, fi, fr, t).1 n ≠ oNil := fun z => by
        have z : H n = oNil := z
        rw [hn] at z; rw [z] at ho; cases ho
      have := (h.1 n w hlt hne).2.cls
      rw [show (H, fi, fr, t).1 n = o from hn] at this
      exact this
theorem RepI.fld (h : RepI g ρ ν (H, fi, fr, t)) {F : Nat} (hF : Nat.ble 91 F = false) : gfi g F n = fi F n ∧ gfr g F n = fr F n :=
  h.2.2.2.1 F n (by rcases Nat.lt_or_ge F 91 with w | w; exact w; rw [Nat.ble_eq_true_of_le w] at hF; cases hF)
theorem BW.pl {op i' : Nat} {ls' : GL} {st' : List GV} (hC : M.2.2.1[i]? = some (op, a, b)) (h : gpl i op a b ls st = some (i', ls', st')) (k : BW d M i' ls' st' S Q) : BW d M i ls st S Q := fun g hR => GW.pl hC h (k g hR)
theorem BW.sti {x : Int} (hC : M.2.2.1[i]? = some (3, a, b)) (hl : Nat.ble (a + 1) ls.length = true) (k : BW d M (i + 1) (glset ls a (.inl x)) st S Q) : BW d M i ls (.inl x :: st) S Q := fun g hR => GW.sti hC hl (k g hR)
theorem BW.str {r : Option Nat} (hC : M.2.2.1[i]? = some (4, a, b)) (hl : Nat.ble (a + 1) ls.length = true) (k : BW d M (i + 1) (glset ls a (.inr (.inr r))) st S Q) : BW d M i ls (.inr (.inr r) :: st) S Q := fun g hR => GW.str hC hl (k g hR)
theorem BW.br {op : Nat} {st' : List GV} {R P N : Prop} (hC : M.2.2.1[i]? = some (op, a, b)) (ht : gbr op b st = some (R, P, N, st')) (hR : R) (kt : P → BW d M a ls st' S Q) (kf : N → BW d M (i + 1) ls st' S Q) : BW d M i ls st S Q := fun g h => GW.br hC ht hR (fun z => kt z g h) (fun z => kf z g h)
theorem BW.sw {op i' : Nat} {x : Int} (hC : M.2.2.1[i]? = some (op, a, b)) (ho : (op == 52 || op == 53) = true) (hx : inR x) (h : gswt (gsws.getD a (0, 0, [])) x = i') (k : BW d M i' ls st S Q) : BW d M i ls (.inl x :: st) S Q := fun g hR => GW.sw hC ho hx h (k g hR)
theorem BW.bin {x y z : Int} (hC : M.2.2.1[i]? = some (18, a, b)) (h : gbin a x y = some z) (k : BW d M (i + 1) ls (.inl z :: st) S Q) : BW d M i ls (.inl y :: .inl x :: st) S Q := fun g hR => GW.bin hC h (k g hR)
theorem BW.i2c {x : Int} (hC : M.2.2.1[i]? = some (22, a, b)) (h : 0 ≤ x ∧ x < 65536) (k : BW d M (i + 1) ls (.inl x :: st) S Q) : BW d M i ls (.inl x :: st) S Q := fun g hR => GW.i2c hC h (k g hR)
theorem BW.ret (hC : M.2.2.1[i]? = some (65, a, b)) (hk : M.2.1 = 0) (h : Q (.inl none) S) : BW d M i ls [] S Q := fun _ hR => GW.ret hC hk ⟨_, hR, h⟩
theorem BW.aret {r : Option Nat} (hC : M.2.2.1[i]? = some (64, a, b)) (hk : M.2.1 = 5) (h : Q (.inl (some (.inr (.inr r)))) S) : BW d M i ls [.inr (.inr r)] S Q := fun _ hR => GW.aret hC hk ⟨_, hR, h⟩
theorem BW.irx {x : Int} (hC : M.2.2.1[i]? = some (63, a, b)) (hk : gretok M.2.1 x) (h : Q (.inl (some (.inl x))) S) : BW d M i ls [.inl x] S Q := fun _ hR => GW.irx hC hk ⟨_, hR, h⟩
theorem BW.nul {op i' : Nat} {r : Option Nat} (hC : M.2.2.1[i]? = some (op, a, b)) (h : gnl9 op a i r = some i') (hk : ∀ n, r = some n → ((H n).1 == 0) = false) (k : BW d M i' ls st (H, fi, fr, t) Q) : BW d M i ls (.inr (.inr r) :: st) (H, fi, fr, t) Q := by
  rintro g ⟨ρ, ν, hR⟩
  refine GW.wf (fun hW => GW.nul hC h ?_ (k g ⟨ρ, ν, hR⟩))
  cases r with
  | none => rfl
  | some n =>
    have := hR.cls hW (n := n) rfl (hk n rfl)
    exact gok_c (by rw [this.1]; exact this.2)
theorem BW.geti {c : Nat} {v : Int} (hC : M.2.2.1[i]? = some (7, a, b)) (hk : (gfk a == 4) = false) (hn : H n = oOwn c) (hc : ghas c a = true) (ha : Nat.ble 91 a = false) (hv : fi a n = v) (k : inR v → BW d M (i + 1) ls (.inl v :: st) (H, fi, fr, t) Q) : BW d M i ls (.inr (.inr (some n)) :: st) (H, fi, fr, t) Q := by
  rintro g ⟨ρ, ν, hR⟩
  obtain ⟨q1, ⟨h1, h2⟩, q3, q4⟩ := hR.obj hn rfl rfl
  exact GW.geti hC hk (GHas.at h1 hc) ((hR.fld ha).1.trans hv) (fun z => k z g ⟨ρ, ν, hR⟩)
theorem BW.getr {c : Nat} {v : Option Nat} (hC : M.2.2.1[i]? = some (7, a, b)) (hk : (gfk a == 4) = true) (hn : H n = oOwn c) (hc : ghas c a = true) (ha : Nat.ble 91 a = false) (hv : fr a n = v) (k : BW d M (i + 1) ls (.inr (.inr v) :: st) (H, fi, fr, t) Q) : BW d M i ls (.inr (.inr (some n)) :: st) (H, fi, fr, t) Q := by
  rintro g ⟨ρ, ν, hR⟩
  obtain ⟨q1, ⟨h1, h2⟩, q3, q4⟩ := hR.obj hn rfl rfl
  exact GW.getr hC hk (GHas.at h1 hc) ((hR.fld ha).2.trans hv) (k g ⟨ρ, ν, hR⟩)
theorem RepI.puti {F : Nat} {x : Int} (hR : RepI g ρ ν (H, fi, fr, t)) (hF : F < 91) : RepI (gsfi g F n x) ρ ν (H, upI fi F n x, fr, t) := by
  obtain ⟨r1, r2, r3, r4, r5⟩ := hR
  refine ⟨fun m h1 h2 h3 => ⟨(r1 m h1 h2 h3).1, (r1 m h1 h2 h3).2.sj (SameJ.fi hF) (fun _ _ _ z => z)⟩, r2, r3, fun f m hf => ⟨?_, (r4 f m hf).2⟩, r5⟩
  show (if f = F ∧ m = n then x else gfi g f m) = if f = F ∧ m = n then x else fi f m
  rw [(r4 f m hf).1]
theorem RepI.putr {F : Nat} {x : Option Nat} (hR : RepI g ρ ν (H, fi, fr, t)) (hF : F < 91) : RepI (gsfr g F n x) ρ ν (H, fi, upR fr F n x, t) := by
  obtain ⟨r1, r2, r3, r4, r5⟩ := hR
  refine ⟨fun m h1 h2 h3 => ⟨(r1 m h1 h2 h3).1, (r1 m h1 h2 h3).2.sj (SameJ.fr hF) (fun _ _ _ z => z)⟩, r2, r3, fun f m hf => ⟨(r4 f m hf).1, ?_⟩, r5⟩
  show (if f = F ∧ m = n then x else gfr g f m) = if f = F ∧ m = n then x else fr f m
  rw [(r4 f m hf).2]
theorem BW.putx {c : Nat} {x : Int} (hC : M.2.2.1[i]? = some (8, a, b)) (hn : H n = oOwn c) (hc : ghas c a = true) (ha : a < 91) (hf : gfit (gfk a) x) (k : BW d M (i + 1) ls st (H, upI fi a n x, fr, t) Q) : BW d M i ls (.inl x :: .inr (.inr (some n)) :: st) (H, fi, fr, t) Q := by
  rintro g ⟨ρ, ν, hR⟩
  obtain ⟨q1, ⟨h1, h2⟩, q3, q4⟩ := hR.obj hn rfl rfl
  exact GW.putx hC (GHas.at h1 hc) h1.2 hf (k _ ⟨ρ, ν, hR.puti ha⟩)
theorem BW.putr {c : Nat} {r : Option Nat} (hC : M.2.2.1[i]? = some (8, a, b)) (hk : gfk a = 4) (hn : H n = oOwn c) (hc : ghas c a = true) (ha : a < 91) (k : BW d M (i + 1) ls st (H, fi, upR fr a n r, t) Q) : BW d M i ls (.inr (.inr r) :: .inr (.inr (some n)) :: st) (H, fi, fr, t) Q := by
  rintro g ⟨ρ, ν, hR⟩
  obtain ⟨q1, ⟨h1, h2⟩, q3, q4⟩ := hR.obj hn rfl rfl
  exact GW.putr hC hk h1 hc (k _ ⟨ρ, ν, hR.putr ha⟩)
end BW
