set_option maxRecDepth 100000
/-! THE LEVEL OF OBJECTS: H what the roots hold, fi and fr the fields of Lineorders' own classes, t a budget -/
abbrev Obj : Type := Nat × List Int × List (Option Nat) × Nat × (Int → Option Nat)
def oNil : Obj := (0, [], [], 0, fun _ => none)
def oStr (s : List Int) : Obj := (1, s, [], 0, fun _ => none)
def oSb (s : List Int) (cap : Nat) : Obj := (2, s, [], cap, fun _ => none)
def oAl (xs : List (Option Nat)) (cap : Nat) : Obj := (3, [], xs, cap, fun _ => none)
def oLl (xs : List (Option Nat)) (mc : Nat) : Obj := (4, [], xs, mc, fun _ => none)
/-- an iterator of l ahead of the k-th; the one it gave last is the (lr-1)-th, none if lr = 0; e: the list's count that it expects -/
def oIt (l k e lr : Nat) : Obj := (5, [(k : Int), (e : Int), (lr : Int)], [], l, fun _ => none)
def oAd (xs : List (Option Nat)) (cap : Nat) : Obj := (6, [], xs, cap, fun _ => none)
def oTm (M : Int → Option Nat) : Obj := (7, [], [], 0, M)
def oBs (w : Nat) : Obj := (8, [], [], w, fun _ => none)
def oIa (xs : List Int) : Obj := (9, xs, [], 0, fun _ => none)
def oRa (c : Nat) (xs : List (Option Nat)) : Obj := (10, [], xs, c, fun _ => none)
def oOwn (c : Nat) : Obj := (11, [], [], c, fun _ => none)
/-- new, not yet made: all its fields 0 or null -/
def oRaw (c : Nat) : Obj := (12, [], [], c, fun _ => none)
abbrev BS : Type := (Nat → Obj) × (Nat → Nat → Int) × (Nat → Nat → Option Nat) × Nat
/-- how an object lies in the heap: ρ the owner of a cell, ν the nodes of a list -/
def ObjIs (g : GH) (ρ : Nat → Nat) (ν : Nat → List Nat) (H : Nat → Obj) (t n : Nat) (o : Obj) : Prop := match o with
  | (1, s, _, _, _) => ∃ a, SIs g n s a ∧ ρ a = n
  | (2, s, _, cap, _) => ∃ a, BSb g n s a cap ∧ ρ a = n
  | (3, _, xs, cap, _) => ∃ a, ALs g n xs a cap ∧ (a = 330 ∨ ρ a = n) ∧ gfi g 102 n ≤ t
  | (4, _, xs, mc, _) => LLs g n (ν n) xs ∧ (∀ m ∈ ν n, ρ m = n) ∧ gfi g 102 n = mc ∧ mc ≤ t
  | (5, [k, e, lr], _, l, _) => GAt g n 19 ∧ gfr g 115 n = some l ∧ ∃ xs mc, H l = oLl xs mc ∧ ρ l = l ∧ e ≤ mc ∧ (e = mc → ITs g n l (ν l) k.toNat (pv (ν l) lr.toNat) ∧ 0 ≤ k ∧ k ≤ (ν l).length)
  | (6, _, xs, cap, _) => ∃ a h, ADs g n xs a cap h ∧ ρ a = n
  | (7, _, _, _, M) => ∃ N, TMs g n M N ∧ (∀ k, Kd M k → ρ (N k) = n) ∧ gfi g 124 n ≤ t
  | (8, _, _, w, _) => ∃ a u, BSs g n (BitVec.ofNat 64 w) a u ∧ ρ a = n
  | (9, xs, _, _, _) => GAt g n 100 ∧ glen g n = xs.length ∧ ∀ j, j < xs.length → gai g n j = xs.getD j 0
  | (10, _, xs, c, _) => GAt g n c ∧ (104 ≤ c ∧ c ≤ 107) ∧ glen g n = xs.length ∧ ∀ j, j < xs.length → gar g n j = xs.getD j none
  | (11, _, _, c, _) => GAt g n c ∧ 1 ≤ c ∧ c ≤ 12
  | (12, _, _, c, _) => GAt g n c ∧ 1 ≤ c ∧ ∀ F, 91 ≤ F → gfi g F n = 0 ∧ gfr g F n = none
  | _ => False
/-- the constants -/
def Hk (n : Nat) : Obj := if 256 ≤ n ∧ n < 264 then oStr (kstr.getD (n - 256) []) else oNil
def RepI (g : GH) (ρ : Nat → Nat) (ν : Nat → List Nat) (S : BS) : Prop :=
  (∀ n, 1000 ≤ n → n < gsz g → S.1 n ≠ oNil → ρ n = n ∧ ObjIs g ρ ν S.1 S.2.2.2 n (S.1 n)) ∧
  (∀ n, gsz g ≤ n → S.1 n = oNil) ∧ (∀ n, n < 1000 → S.1 n = Hk n ∧ ρ n < 1000) ∧
  (∀ F n, F < 91 → gfi g F n = S.2.1 F n ∧ gfr g F n = S.2.2.1 F n) ∧ gwt g ≤ S.2.2.2
def Rep (g : GH) (S : BS) : Prop := ∃ ρ ν, RepI g ρ ν S
/-- an object whose cells have not changed -/
theorem ObjIs.kp {g g' : GH} {ρ ρ' : Nat → Nat} {ν ν' : Nat → List Nat} {H H' : Nat → Obj} {t t' n c : Nat} {Sx : Nat → Prop} {o : Obj} (h : ObjIs g ρ ν H t n o) (hK : Kp g g' Sx c) (hW : GWf g) (ht : t ≤ t')
    (hc : ∀ k, k < gsz g → (k = n ∨ ρ k = n) → SameC g g' k ∧ ρ' k = ρ k) (hν : ν' n = ν n)
    (hk : ∀ k, k < 1000 → SameC g g' k) (h5 : o.1 = 5 → ObjIs g' ρ' ν' H' t' n o) : ObjIs g' ρ' ν' H' t' n o := by
  obtain ⟨tag, is, xs, a, M⟩ := o
  have hcls : ∀ k c0, gcls g k = c0 → (c0 == 0) = false → k < gsz g := fun k c0 e z => hW.lt (by rw [e]; exact fun w => by rw [w] at z; cases z)
  by_cases t5 : tag = 5
  · exact h5 t5
  match tag, h with
  | 1, h =>
    obtain ⟨b, h1, h2⟩ := h
    have hn := hcls n _ h1.1 rfl
    have hb := hcls b _ h1.2.2.2.1 rfl
    have s1 := hc n hn (Or.inl rfl)
    have s2 := hc b hb (Or.inr h2)
    exact ⟨b, h1.same s1.1 s2.1, s2.2.trans h2⟩
  | 2, h =>
    obtain ⟨b, h1, h2⟩ := h
    have hn := hcls n _ h1.1.1 rfl
    have hb := hcls b _ h1.2.2.2.2.2.1.1 rfl
    have s1 := hc n hn (Or.inl rfl)
    have s2 := hc b hb (Or.inr h2)
    exact ⟨b, h1.same s1.1 s2.1, s2.2.trans h2⟩
  | 3, h =>
    obtain ⟨b, h1, h2, h3⟩ := h
    have hn := hcls n _ h1.1.1 rfl
    have s1 := hc n hn (Or.inl rfl)
    have hb := (h1.lt hW).2.1
    have s2 : SameC g g' b ∧ (b = 330 ∨ ρ' b = n) := by
      rcases h2 with z | z
      · exact ⟨hk b (by omega), Or.inl z⟩
      · have := hc b hb (Or.inr z)
        exact ⟨this.1, Or.inr (this.2.trans z)⟩
    exact ⟨b, h1.kp hK hW s1.1 s2.1, s2.2, by rw [s1.1.2.2.1]; omega⟩
  | 4, h =>
    obtain ⟨h1, h2, h3, h4⟩ := h
    have hlt := h1.lt hW
    have s1 := hc n hlt.1 (Or.inl rfl)
    refine ⟨?_, ?_, (s1.1.2.2.1 102).trans h3, Nat.le_trans h4 ht⟩
    · rw [hν]; exact h1.kp hK hW s1.1 (fun m hm => (hc m (hlt.2.1 m hm) (Or.inr (h2 m hm))).1)
    · rw [hν]; exact fun m hm => (hc m (hlt.2.1 m hm) (Or.inr (h2 m hm))).2.trans (h2 m hm)
  | 6, h =>
    obtain ⟨b, hh, h1, h2⟩ := h
    have hlt := h1.lt hW
    have s1 := hc n hlt.1 (Or.inl rfl)
    have s2 := hc b hlt.2.1 (Or.inr h2)
    exact ⟨b, hh, h1.kp hK hW s1.1 s2.1, s2.2.trans h2⟩
  | 7, h =>
    obtain ⟨N, h1, h2, h3⟩ := h
    have hlt := h1.lt hW
    have s1 := hc n hlt.1 (Or.inl rfl)
    exact ⟨N, h1.kp hK hW s1.1 (fun k hk => (hc _ (hlt.2 k hk) (Or.inr (h2 k hk))).1), fun k hk => (hc _ (hlt.2 k hk) (Or.inr (h2 k hk))).2.trans (h2 k hk), by rw [s1.1.2.2.1]; omega⟩
  | 8, h =>
    obtain ⟨b, u, h1, h2⟩ := h
    have hn := hcls n _ h1.1.1 rfl
    have hb := hcls b _ h1.2.2.2.1.1 rfl
    have s1 := hc n hn (Or.inl rfl)
    have s2 := hc b hb (Or.inr h2)
    exact ⟨b, u, h1.same s1.1 s2.1, s2.2.trans h2⟩
  | 9, h =>
    obtain ⟨h1, h2, h3⟩ := h
    have s1 := hc n (hcls n _ h1.1 rfl) (Or.inl rfl)
    exact ⟨⟨s1.1.1.trans h1.1, h1.2⟩, s1.1.2.1.trans h2, fun j hj => (s1.1.2.2.2.2.1 j).trans (h3 j hj)⟩
  | 10, h =>
    obtain ⟨h1, h2, h3, h4⟩ := h
    have s1 := hc n (hW.lt (by rw [h1.1]; omega)) (Or.inl rfl)
    exact ⟨⟨s1.1.1.trans h1.1, h1.2⟩, h2, s1.1.2.1.trans h3, fun j hj => (s1.1.2.2.2.2.2 j).trans (h4 j hj)⟩
  | 0, h => exact h.elim
  | 5, _ => exact absurd rfl t5
  | k + 13, h => exact h.elim
  | 12, h =>
    obtain ⟨h1, h2, h3⟩ := h
    have s1 := hc n (hW.lt (by rw [h1.1]; omega)) (Or.inl rfl)
    exact ⟨⟨s1.1.1.trans h1.1, h1.2⟩, h2, fun F hF => ⟨(s1.1.2.2.1 F).trans (h3 F hF).1, (s1.1.2.2.2.1 F).trans (h3 F hF).2⟩⟩
  | 11, h =>
    obtain ⟨h1, h2⟩ := h
    have s1 := hc n (hW.lt (by rw [h1.1]; omega)) (Or.inl rfl)
    exact ⟨⟨s1.1.1.trans h1.1, h1.2⟩, h2⟩
theorem oLl_inj {xs xs' : List (Option Nat)} {mc mc' : Nat} (h : oLl xs mc = oLl xs' mc') : xs = xs' ∧ mc = mc' := by
  have h1 := congrArg (fun o : Obj => o.2.2.1) h
  have h2 := congrArg (fun o : Obj => o.2.2.2.1) h
  exact ⟨h1, h2⟩
theorem oNe {o o' : Obj} (h : (o.1 == o'.1) = false) : o ≠ o' := fun z => by rw [z] at h; simp at h
/-- a run that changes the roots D alone -/
theorem RepI.mk {g g' : GH} {ρ ρ' : Nat → Nat} {ν ν' : Nat → List Nat} {S : BS} {H' : Nat → Obj} {t' c : Nat} {Sx : Nat → Prop} (h : RepI g ρ ν S) (hW : GWf g) (hK : Kp g g' Sx c) (D : Nat → Prop)
    (hS : ∀ m, m < gsz g → Sx m → 1000 ≤ m ∧ D (ρ m)) (hρ : ∀ m, m < gsz g → ρ' m = ρ m) (hν : ∀ m, m < gsz g → ¬ D m → ν' m = ν m) (hH : ∀ m, ¬ D m → m < gsz g → H' m = S.1 m)
    (hD : ∀ m, D m → 1000 ≤ m ∧ (m < gsz g → H' m ≠ oNil → ρ m = m ∧ ObjIs g' ρ' ν' H' t' m (H' m)))
    (hN : ∀ m, gsz g ≤ m → m < gsz g' → H' m ≠ oNil → ρ' m = m ∧ ObjIs g' ρ' ν' H' t' m (H' m)) (hN2 : ∀ m, gsz g' ≤ m → H' m = oNil)
    (hI : ∀ l xs mc, D l → S.1 l = oLl xs mc → ∃ xs' mc', H' l = oLl xs' mc' ∧ mc ≤ mc' ∧ (mc' = mc → ν' l = ν l ∧ gfi g' 102 l = gfi g 102 l))
    (ht : S.2.2.2 + c ≤ t') : RepI g' ρ' ν' (H', S.2.1, S.2.2.1, t') := by
  obtain ⟨r1, r2, r3, r4, r5⟩ := h
  have hsz := hW.2.2.1
  refine ⟨fun n hn1 hn2 hn3 => ?_, hN2, fun n hn => ?_, fun F n hF => ?_, ?_⟩
  · rcases Nat.lt_or_ge n (gsz g) with ho | ho
    · by_cases hd : D n
      · have := (hD n hd).2 ho hn3
        exact ⟨(hρ n ho).trans this.1, this.2⟩
      · have e := hH n hd ho
        have hn3 : H' n ≠ oNil := hn3
        rw [e] at hn3
        obtain ⟨o1, o2⟩ := r1 n hn1 ho hn3
        refine ⟨(hρ n ho).trans o1, ?_⟩
        show ObjIs g' ρ' ν' H' t' n (H' n)
        rw [e]
        have hc : ∀ k, k < gsz g → (k = n ∨ ρ k = n) → SameC g g' k ∧ ρ' k = ρ k := fun k hk hkn => by
          refine ⟨hK.2.2.1 k hk (fun z => ?_), hρ k hk⟩
          have := (hS k hk z).2
          rcases hkn with w | w
          · rw [w, o1] at this; exact hd this
          · rw [w] at this; exact hd this
        refine o2.kp hK hW (Nat.le_trans (Nat.le_add_right _ c) ht) hc (hν n ho hd) (fun k hk => hK.2.2.1 k (by omega) (fun z => by have := (hS k (by omega) z).1; omega)) (fun h5 => ?_)
        generalize S.1 n = o at o2 h5
        obtain ⟨tag, is, xs, l, M⟩ := o
        have h5 : tag = 5 := h5
        subst h5
        match is, o2 with
        | [], o2 => exact o2.elim
        | [_], o2 => exact o2.elim
        | [_, _], o2 => exact o2.elim
        | _ :: _ :: _ :: _ :: _, o2 => exact o2.elim
        | [k, e, lr], o2 =>
          obtain ⟨a1, a2, ys, mc, a3, a4, a5, a6⟩ := o2
          have sn := (hc n ho (Or.inl rfl)).1
          have ll : l < gsz g := by
            rcases Nat.lt_or_ge l (gsz g) with w | w
            · exact w
            · rw [r2 l w] at a3; exact absurd a3 (oNe rfl)
          refine ⟨⟨sn.1.trans a1.1, a1.2⟩, (sn.2.2.2.1 115).trans a2, ?_⟩
          by_cases dl : D l
          · obtain ⟨xs', mc', b1, b2, b3⟩ := hI l ys mc dl a3
            refine ⟨xs', mc', b1, (hρ l ll).trans a4, by omega, fun he => ?_⟩
            have hmm : mc' = mc := by omega
            obtain ⟨c1, c2⟩ := b3 hmm
            obtain ⟨⟨i1, i2, i3, i4, i5, i6⟩, i7, i8⟩ := a6 (by omega)
            rw [c1]
            exact ⟨⟨⟨sn.1.trans i1.1, i1.2⟩, (sn.2.2.2.1 115).trans i2, (sn.2.2.1 113).trans i3, (sn.2.2.1 114).trans (i4.trans c2.symm), (sn.2.2.2.1 112).trans i5, (sn.2.2.2.1 111).trans i6⟩, i7, i8⟩
          · have sl := hK.2.2.1 l ll (fun z => by have := (hS l ll z).2; rw [a4] at this; exact dl this)
            refine ⟨ys, mc, (hH l dl ll).trans a3, (hρ l ll).trans a4, a5, fun he => ?_⟩
            obtain ⟨⟨i1, i2, i3, i4, i5, i6⟩, i7, i8⟩ := a6 he
            rw [hν l ll dl]
            exact ⟨⟨⟨sn.1.trans i1.1, i1.2⟩, (sn.2.2.2.1 115).trans i2, (sn.2.2.1 113).trans i3, (sn.2.2.1 114).trans (i4.trans (sl.2.2.1 102).symm), (sn.2.2.2.1 112).trans i5, (sn.2.2.2.1 111).trans i6⟩, i7, i8⟩
    · exact hN n ho hn2 hn3
  · have hd : ¬ D n := fun z => by have := (hD n z).1; omega
    have := r3 n hn
    exact ⟨(hH n hd (by omega)).trans this.1, by rw [hρ n (by omega)]; exact this.2⟩
  · have a := hK.2.2.2.2 F n hF
    have b := r4 F n hF
    exact ⟨a.1.trans b.1, a.2.trans b.2⟩
  · have := hK.2.1
    show gwt g' ≤ t'
    omega
/-! walks and methods at this level -/
def BW (d : Nat) (M : GMeth) (i : Nat) (ls : GL) (st : List GV) (S : BS) (Q : GO → BS → Prop) : Prop := ∀ g, Rep g S → GW d M i ls st g (fun r g' => ∃ S', Rep g' S' ∧ Q r S')
def BM (d mid : Nat) (as : List GV) (S : BS) (Q : GO → BS → Prop) : Prop := ∀ g, Rep g S → GM d mid as g (fun r g' => ∃ S', Rep g' S' ∧ Q r S')
/-- it returns -/
def BMr (d mid : Nat) (as : List GV) (S : BS) (Q : Option GV → BS → Prop) : Prop := BM d mid as S (fun r S' => ∃ v, r = .inl v ∧ Q v S')
/-- it returns just that, nothing changes -/
def BE (d mid : Nat) (as : List GV) (S : BS) (v : Option GV) : Prop := BMr d mid as S (fun r S' => v = r ∧ S = S')
def upH (H : Nat → Obj) (n : Nat) (o : Obj) (m : Nat) : Obj := if m = n then o else H m
theorem upH_eq {H : Nat → Obj} {n : Nat} {o : Obj} : upH H n o n = o := if_pos rfl
theorem upH_ne {H : Nat → Obj} {n m : Nat} {o : Obj} (h : m ≠ n) : upH H n o m = H m := if_neg h
section Lift
variable {d : Nat} {g : GH} {H : Nat → Obj} {fi : Nat → Nat → Int} {fr : Nat → Nat → Option Nat} {t : Nat} {n : Nat}
/-- a root, or a constant string -/
theorem RepI.obj {ρ : Nat → Nat} {ν : Nat → List Nat} (h : RepI g ρ ν (H, fi, fr, t)) {o : Obj} (hn : H n = o) (ho : (o.1 == 0) = false) (h1 : (o.1 == 1) = false) : ρ n = n ∧ ObjIs g ρ ν H t n o ∧ n < gsz g ∧ 1000 ≤ n := by
  have hne : o ≠ oNil := oNe ho
  have hlt : n < gsz g := by
    rcases Nat.lt_or_ge n (gsz g) with w | w
    · exact w
    · exact absurd (hn.symm.trans (h.2.1 n w)) hne
  have h1000 : 1000 ≤ n := by
    rcases Nat.lt_or_ge n 1000 with w | w
    · exfalso
      have e := hn.symm.trans (h.2.2.1 n w).1
      rw [e] at ho h1
      unfold Hk at ho h1
      split at ho
      · rename_i z; rw [if_pos z] at h1; cases h1
      · cases ho
    · exact w
  have := h.1 n h1000 hlt (by show H n ≠ oNil; rw [hn]; exact hne)
  have e : H n = o := hn
  exact ⟨this.1, by have h2 := this.2; rw [show (H, fi, fr, t).1 n = o from hn] at h2; exact h2, hlt, h1000⟩
/-- one root changes, nothing new outside of it -/
theorem RepI.one {g' : GH} {ρ ρ' : Nat → Nat} {ν ν' : Nat → List Nat} {t' c : Nat} {Sx : Nat → Prop} {o o' : Obj} (h : RepI g ρ ν (H, fi, fr, t)) (hW : GWf g) (hK : Kp g g' Sx c) (hn : H n = o) (ho : (o.1 == 0) = false) (h1 : (o.1 == 1) = false) (hnl : (o.1 == 4) = false)
    (hS : ∀ m, m < gsz g → Sx m → ρ m = n) (hρ : ∀ m, ρ' m = if m < gsz g then ρ m else n) (hν : ν' = ν) (hO : ObjIs g' ρ' ν' (upH H n o') t' n o') (ht : t + c ≤ t') : RepI g' ρ' ν' (upH H n o', fi, fr, t') := by
  obtain ⟨q1, q2, q3, q4⟩ := h.obj hn ho h1
  have hsz := hW.2.2.1
  have hrk : ∀ m, m < 1000 → ρ m < 1000 := fun m hm => (h.2.2.1 m hm).2
  refine RepI.mk h hW hK (fun m => m = n) (fun m hm z => ⟨?_, hS m hm z⟩) (fun m hm => by rw [hρ, if_pos hm]) (fun m _ _ => by rw [hν]) (fun m hm _ => upH_ne hm) (fun m hm => ⟨by omega, fun _ _ => ⟨by rw [hm]; exact q1, ?_⟩⟩) (fun m hm _ hne => ?_) (fun m hm => ?_) (fun l xs mc hl e => ?_) ht
  · rcases Nat.lt_or_ge m 1000 with w | w
    · have := hS m hm z; have := hrk m w; omega
    · exact w
  · rw [hm, upH_eq]; exact hO
  · have hmn : m ≠ n := by omega
    exact absurd ((upH_ne hmn).trans (h.2.1 m hm)) hne
  · have := hK.1
    exact (upH_ne (by omega)).trans (h.2.1 m (by omega))
  · exfalso
    rw [hl] at e
    have e : H n = oLl xs mc := e
    rw [hn] at e
    rw [e] at hnl
    cases hnl
end Lift
