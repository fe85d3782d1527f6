set_option maxRecDepth 100000
/-! THE WALK OVER OBJECTS WITH STATES AS NAMES: what is known of a state is told by Ob, Fi, Fe; a step gives a new name -/
def Ob (S : BS) (m : Nat) (o : Obj) : Prop := S.1 m = o
def Fi (S : BS) (F m : Nat) (v : Int) : Prop := S.2.1 F m = v
def Fe (S : BS) (F m : Nat) (v : Option Nat) : Prop := S.2.2.1 F m = v
/-- one object may change -/
abbrev Fr1 (S S' : BS) (n c : Nat) : Prop := Fr S S' (fun m => m = n) c
/-- only new objects come -/
abbrev Fr0 (S S' : BS) (c : Nat) : Prop := Fr S S' (fun _ => False) c
/-- one field of one object was put -/
def Pu (S S' : BS) (a n : Nat) : Prop := S'.1 = S.1 ∧ S'.2.2.2 = S.2.2.2 ∧ ∀ F m, (F ≠ a ∨ m ≠ n) → S'.2.1 F m = S.2.1 F m ∧ S'.2.2.1 F m = S.2.2.1 F m
/-- a new object -/
def Nw (S S' : BS) (q : Nat) (o : Obj) (c : Nat) : Prop := 1000 ≤ q ∧ S.1 q = oNil ∧ Ob S' q o ∧ Fr0 S S' c ∧ ∀ F, F < 91 → Fi S' F q 0 ∧ Fe S' F q none
def Sep (_ : BS) (W : Nat → Prop) (m : Nat) : Prop := ¬ W m
/-- no string may change -/
def NoS (S : BS) (W : Nat → Prop) : Prop := ∀ m, W m → (S.1 m).1 ≠ 1
/-- what may change lies outside of G -/
def Av (G W : Nat → Prop) : Prop := ∀ m, W m → ¬ G m
/-- new since S -/
def Nu (S : BS) (m : Nat) : Prop := S.1 m = oNil
theorem ownNe {c c' : Nat} (h : Nat.beq c c' = false) : oOwn c ≠ oOwn c' := fun z => by
  have : c = c' := congrArg (fun o : Obj => o.2.2.2.1) z
  subst this
  rw [Nat.beq_refl] at h; cases h
section FR
variable {S S' S1 S2 : BS} {W W2 : Nat → Prop} {c c2 n m F a : Nat} {o o' : Obj} {v : Int} {r : Option Nat}
theorem Ob.ne (h : Ob S m o) (h' : Ob S n o') (ne : o ≠ o') : m ≠ n := fun z => ne (h.symm.trans ((congrArg S.1 z).trans h'))
theorem Ob.old (h : Ob S m o) (ho : o ≠ oNil) : S.1 m ≠ oNil := fun z => ho (h.symm.trans z)
theorem Ob.neN (h : Ob S m o) (h' : S.1 n = oNil) (ho : o ≠ oNil) : m ≠ n := fun z => ho (h.symm.trans ((congrArg S.1 z).trans h'))
theorem Ob.fr (h : Ob S m o) (hF : Fr S S' W c) (hs : o ≠ oNil ∧ Sep S W m) : Ob S' m o := (hF.2.1 m (h.old hs.1) hs.2).1.trans h
theorem Fi.fr (h : Fi S F m v) (hF : Fr S S' W c) (hs : (S.1 m ≠ oNil ∧ F < 91) ∧ Sep S W m) : Fi S' F m v := ((hF.2.1 m hs.1.1 hs.2).2 F hs.1.2).1.trans h
theorem Fe.fr (h : Fe S F m r) (hF : Fr S S' W c) (hs : (S.1 m ≠ oNil ∧ F < 91) ∧ Sep S W m) : Fe S' F m r := ((hF.2.1 m hs.1.1 hs.2).2 F hs.1.2).2.trans h
theorem Ob.pu (h : Ob S m o) (hP : Pu S S' a n) (_ : True) : Ob S' m o := (congrFun hP.1 m).trans h
theorem Fi.pu (h : Fi S F m v) (hP : Pu S S' a n) (hn : F ≠ a ∨ m ≠ n) : Fi S' F m v := (hP.2.2 F m hn).1.trans h
theorem Fe.pu (h : Fe S F m r) (hP : Pu S S' a n) (hn : F ≠ a ∨ m ≠ n) : Fe S' F m r := (hP.2.2 F m hn).2.trans h
theorem Pu.fr (hP : Pu S S' a n) : Fr1 S S' n 0 := ⟨fun m h => by rw [hP.1]; exact h, fun m _ hm => ⟨congrFun hP.1 m, fun F _ => hP.2.2 F m (Or.inr hm)⟩, Nat.le_of_eq hP.2.1⟩
theorem Nw.fr (h : Nw S S' n o c) : Fr0 S S' c := h.2.2.2.1
theorem Nw.ob (h : Nw S S' n o c) : Ob S' n o := h.2.2.1
theorem Nw.nil (h : Nw S S' n o c) : S.1 n = oNil := h.2.1
theorem Fr0.ob (hF : Fr0 S S' c) (h : Ob S m o) (ho : o ≠ oNil) : Ob S' m o := h.fr hF ⟨ho, fun z => z⟩
theorem Sep.no : Sep S (fun _ => False) m := fun z => z
theorem Sep.one (h : Ob S m o) (h' : Ob S n o') (ne : o ≠ o') : Sep S (fun k => k = n) m := h.ne h' ne
theorem Sep.ne (h : m ≠ n) : Sep S (fun k => k = n) m := h
theorem Sep.two {q : Nat} (h : Sep S (fun k => k = n) m) (h' : Sep S (fun k => k = q) m) : Sep S (fun k => k = n ∨ k = q) m := fun z => z.elim h h'
theorem NoS.no : NoS S (fun _ => False) := fun _ z => z.elim
theorem NoS.one (h : Ob S n o) (ho : (o.1 == 1) = false) : NoS S (fun k => k = n) := fun m z w => by
  have e : S.1 n = o := h
  rw [z, e] at w; rw [w] at ho; cases ho
theorem NoS.two {q : Nat} (h : NoS S (fun k => k = n)) (h' : NoS S (fun k => k = q)) : NoS S (fun k => k = n ∨ k = q) := fun m z => z.elim (h m) (h' m)
theorem Av.no {G : Nat → Prop} : Av G (fun _ => False) := fun _ z => z.elim
theorem Av.ne {G : Nat → Prop} (h : ¬ G n) : Av G (fun k => k = n) := fun m z => by rw [z]; exact h
theorem Av.one (h : Ob S n o) (ho : o ≠ oNil) : Av (Nu S) (fun k => k = n) := Av.ne (h.old ho)
theorem Av.two {G : Nat → Prop} {q : Nat} (h : Av G (fun k => k = n)) (h' : Av G (fun k => k = q)) : Av G (fun k => k = n ∨ k = q) := fun m z => z.elim (h m) (h' m)
theorem Nu.not (h : Ob S n o) (ho : o ≠ oNil) : ¬ Nu S n := h.old ho
theorem Nu.sub (hF : Fr S S' W c) (m : Nat) (h : Nu S' m) : Nu S m := Classical.byContradiction (fun z => hF.1 m z h)
theorem Fr.w (h : Fr S S' W c) (hW : ∀ m, S.1 m ≠ oNil → W m → W2 m) (hc : c ≤ c2) : Fr S S' W2 c2 := h.le hc hW
theorem Fr.upE {b k : Nat} (ho : o ≠ oNil) (e : S' = (upH S.1 b o, S.2.1, S.2.2.1, S.2.2.2 + k)) : Ob S' b o ∧ Fr1 S S' b k := by
  subst e
  refine ⟨upH_eq, fun m hm => ?_, fun m hm hb => ⟨upH_ne hb, fun _ _ => ⟨rfl, rfl⟩⟩, Nat.le_refl _⟩
  by_cases e : m = b
  · rw [e]; exact fun z => ho (upH_eq.symm.trans z)
  · exact fun z => hm ((upH_ne e).symm.trans z)
end FR
section CW
variable {d i a n : Nat} {b : Int} {M : GMeth} {ls : GL} {st : List GV} {S : BS} {Q : GO → BS → Prop}
theorem CW.geti {c : Nat} {v : Int} (hC : M.2.2.1[i]? = some (7, a, b)) (hk : (gfk a == 4) = false) (hn : Ob S n (oOwn c)) (hc : ghas c a = true) (ha : Nat.ble 91 a = false) (hv : Fi S a n v) (k : inR v → BW d M (i + 1) ls (.inl v :: st) S Q) : BW d M i ls (.inr (.inr (some n)) :: st) S Q := by
  obtain ⟨H, fi, fr, t⟩ := S
  exact BW.geti hC hk hn hc ha hv k
theorem CW.getr {c : Nat} {v : Option Nat} (hC : M.2.2.1[i]? = some (7, a, b)) (hk : (gfk a == 4) = true) (hn : Ob S n (oOwn c)) (hc : ghas c a = true) (ha : Nat.ble 91 a = false) (hv : Fe S a n v) (k : BW d M (i + 1) ls (.inr (.inr v) :: st) S Q) : BW d M i ls (.inr (.inr (some n)) :: st) S Q := by
  obtain ⟨H, fi, fr, t⟩ := S
  exact BW.getr hC hk hn hc ha hv k
theorem CW.puti {c : Nat} {x : Int} (hC : M.2.2.1[i]? = some (8, a, b)) (hn : Ob S n (oOwn c)) (hc : ghas c a = true) (ha : a < 91) (hf : gfit (gfk a) x) (k : ∀ S', Pu S S' a n → Fi S' a n x → BW d M (i + 1) ls st S' Q) : BW d M i ls (.inl x :: .inr (.inr (some n)) :: st) S Q := by
  obtain ⟨H, fi, fr, t⟩ := S
  exact BW.putx hC hn hc ha hf (k _ ⟨rfl, rfl, fun F m h => ⟨if_neg (fun z => h.elim (fun w => w z.1) (fun w => w z.2)), rfl⟩⟩ (if_pos ⟨rfl, rfl⟩))
theorem CW.putr {c : Nat} {r : Option Nat} (hC : M.2.2.1[i]? = some (8, a, b)) (hk : gfk a = 4) (hn : Ob S n (oOwn c)) (hc : ghas c a = true) (ha : a < 91) (k : ∀ S', Pu S S' a n → Fe S' a n r → BW d M (i + 1) ls st S' Q) : BW d M i ls (.inr (.inr r) :: .inr (.inr (some n)) :: st) S Q := by
  obtain ⟨H, fi, fr, t⟩ := S
  exact BW.putr hC hk hn hc ha (k _ ⟨rfl, rfl, fun F m h => ⟨rfl, if_neg (fun z => h.elim (fun w => w z.1) (fun w => w z.2))⟩⟩ (if_pos ⟨rfl, rfl⟩))
theorem Nw.mk {H : Nat → Obj} {fi : Nat → Nat → Int} {fr : Nat → Nat → Option Nat} {t q c : Nat} {o : Obj} (ho : o ≠ oNil) (hq : Free H fi fr q) : Nw (H, fi, fr, t) (upH H q o, fi, fr, t + c) q o c := by
  obtain ⟨h1, h2⟩ := Fr.upE (S := (H, fi, fr, t)) (b := q) (k := c) ho rfl
  exact ⟨hq.1, hq.2.1, h1, h2.w (fun m hm z => hm (by rw [z]; exact hq.2.1)) (Nat.le_refl _), fun F hF => hq.2.2 F hF⟩
theorem CW.newO {c L : Nat} (hC : M.2.2.1[i]? = some (47, a, b)) (hL : (glay.getD a []).length = L) (hc : a + 1 = c) (h12 : Nat.ble c 12 = true) (k : ∀ q S', Nw S S' q (oOwn c) (12 + L) → BW d M (i + 1) ls (.inr (.inr (some q)) :: st) S' Q) : BW d M i ls st S Q := by
  obtain ⟨H, fi, fr, t⟩ := S
  exact BW.newO hC hL hc h12 (fun q hq => k q _ (Nw.mk (oNe rfl) hq))
theorem CW.newJ {c L : Nat} (hC : M.2.2.1[i]? = some (47, a, b)) (hL : (glay.getD a []).length = L) (hc : a + 1 = c) (k : ∀ q S', Nw S S' q (oRaw c) (12 + L) → BW d M (i + 1) ls (.inr (.inr (some q)) :: st) S' Q) : BW d M i ls st S Q := by
  obtain ⟨H, fi, fr, t⟩ := S
  exact BW.newJ hC hL hc (fun q hq => k q _ (Nw.mk (oNe rfl) hq))
theorem CW.arrI {op : Nat} {x : Int} (hC : M.2.2.1[i]? = some (op, 100, b)) (ho : (op == 48 || op == 49) = true) (hx : 0 ≤ x ∧ x < 65536) (k : ∀ q S', Nw S S' q (oIa (List.replicate x.toNat 0)) (12 + x.toNat) → BW d M (i + 1) ls (.inr (.inr (some q)) :: st) S' Q) : BW d M i ls (.inl x :: st) S Q := by
  obtain ⟨H, fi, fr, t⟩ := S
  exact BW.arrI hC ho hx (fun q hq => k q _ (Nw.mk (oNe rfl) hq))
theorem CW.arrR {op : Nat} {x : Int} (hC : M.2.2.1[i]? = some (op, a, b)) (ho : (op == 48 || op == 49) = true) (ha : (Nat.ble 104 a && Nat.ble a 107) = true) (hx : 0 ≤ x ∧ x < 65536) (k : ∀ q S', Nw S S' q (oRa a (List.replicate x.toNat none)) (12 + x.toNat) → BW d M (i + 1) ls (.inr (.inr (some q)) :: st) S' Q) : BW d M i ls (.inl x :: st) S Q := by
  obtain ⟨H, fi, fr, t⟩ := S
  exact BW.arrR hC ho ha hx (fun q hq => k q _ (Nw.mk (oNe rfl) hq))
theorem CW.iald {x : Int} {xs : List Int} (hC : M.2.2.1[i]? = some (9, a, b)) (hn : Ob S n (oIa xs)) (hx : 0 ≤ x ∧ x < (xs.length : Int)) (k : inR (xs.getD x.toNat 0) → BW d M (i + 1) ls (.inl (xs.getD x.toNat 0) :: st) S Q) : BW d M i ls (.inl x :: .inr (.inr (some n)) :: st) S Q := by
  obtain ⟨H, fi, fr, t⟩ := S
  exact BW.iald hC hn hx k
theorem CW.aald {x : Int} {c : Nat} {xs : List (Option Nat)} (hC : M.2.2.1[i]? = some (15, a, b)) (hn : Ob S n (oRa c xs)) (hx : 0 ≤ x ∧ x < (xs.length : Int)) (k : BW d M (i + 1) ls (.inr (.inr (xs.getD x.toNat none)) :: st) S Q) : BW d M i ls (.inl x :: .inr (.inr (some n)) :: st) S Q := by
  obtain ⟨H, fi, fr, t⟩ := S
  exact BW.aald hC hn hx k
theorem CW.alenI {xs : List Int} (hC : M.2.2.1[i]? = some (17, a, b)) (hn : Ob S n (oIa xs)) (k : xs.length < 65536 → BW d M (i + 1) ls (.inl (xs.length : Int) :: st) S Q) : BW d M i ls (.inr (.inr (some n)) :: st) S Q := by
  obtain ⟨H, fi, fr, t⟩ := S
  exact BW.alenI hC hn k
theorem CW.alenR {c : Nat} {xs : List (Option Nat)} (hC : M.2.2.1[i]? = some (17, a, b)) (hn : Ob S n (oRa c xs)) (k : xs.length < 65536 → BW d M (i + 1) ls (.inl (xs.length : Int) :: st) S Q) : BW d M i ls (.inr (.inr (some n)) :: st) S Q := by
  obtain ⟨H, fi, fr, t⟩ := S
  exact BW.alenR hC hn k
theorem CW.iast {x v : Int} {xs : List Int} (hC : M.2.2.1[i]? = some (10, a, b)) (hn : Ob S n (oIa xs)) (hx : 0 ≤ x ∧ x < (xs.length : Int)) (hv : inR v) (k : ∀ S', Ob S' n (oIa (xs.set x.toNat v)) → Fr1 S S' n 0 → BW d M (i + 1) ls st S' Q) : BW d M i ls (.inl v :: .inl x :: .inr (.inr (some n)) :: st) S Q := by
  obtain ⟨H, fi, fr, t⟩ := S
  obtain ⟨h1, h2⟩ := Fr.upE (S := (H, fi, fr, t)) (b := n) (k := 0) (o := oIa (xs.set x.toNat v)) (oNe rfl) rfl
  exact BW.iast hC hn hx hv (k _ h1 h2)
theorem CW.aast {c : Nat} {x : Int} {v : Option Nat} {xs : List (Option Nat)} (hC : M.2.2.1[i]? = some (16, a, b)) (hn : Ob S n (oRa c xs)) (hx : 0 ≤ x ∧ x < (xs.length : Int)) (hv : (v = none ∧ c ≤ 106) ∨ ∃ m, v = some m ∧ ((S.1 m).1 == 0) = false ∧ (gasg c (ocls (S.1 m)) = true ∨ (c = 107 ∧ ocls (S.1 m) = 105 ∧ 1000 ≤ m))) (k : ∀ S', Ob S' n (oRa c (xs.set x.toNat v)) → Fr1 S S' n 0 → BW d M (i + 1) ls st S' Q) : BW d M i ls (.inr (.inr v) :: .inl x :: .inr (.inr (some n)) :: st) S Q := by
  obtain ⟨H, fi, fr, t⟩ := S
  obtain ⟨h1, h2⟩ := Fr.upE (S := (H, fi, fr, t)) (b := n) (k := 0) (o := oRa c (xs.set x.toNat v)) (oNe rfl) rfl
  exact BW.aast hC hn hx hv (k _ h1 h2)
theorem CW.nul {op i' : Nat} {r : Option Nat} (hC : M.2.2.1[i]? = some (op, a, b)) (h : gnl9 op a i r = some i') (hk : ∀ n, r = some n → ((S.1 n).1 == 0) = false) (k : BW d M i' ls st S Q) : BW d M i ls (.inr (.inr r) :: st) S Q := by
  obtain ⟨H, fi, fr, t⟩ := S
  exact BW.nul hC h hk k
theorem CW.cast {r : Option Nat} (hC : M.2.2.1[i]? = some (50, a, b)) (h : ∀ n, r = some n → (gcasts.getD a []).contains (ocls (S.1 n)) = true ∧ ((S.1 n).1 == 0) = false ∧ (ocls (S.1 n) < 100 ∨ 1000 ≤ n)) (k : BW d M (i + 1) ls (.inr (.inr r) :: st) S Q) : BW d M i ls (.inr (.inr r) :: st) S Q := by
  obtain ⟨H, fi, fr, t⟩ := S
  exact BW.cast hC h k
theorem CW.castN (hC : M.2.2.1[i]? = some (50, a, b)) (k : BW d M (i + 1) ls (.inr (.inr none) :: st) S Q) : BW d M i ls (.inr (.inr none) :: st) S Q := CW.cast hC (fun n z => by cases z) k
theorem CW.castS {o : Obj} (hC : M.2.2.1[i]? = some (50, a, b)) (hn : Ob S n o) (h1 : (gcasts.getD a []).contains (ocls o) = true) (h2 : (o.1 == 0) = false) (h3 : Nat.ble 100 (ocls o) = false) (k : BW d M (i + 1) ls (.inr (.inr (some n)) :: st) S Q) : BW d M i ls (.inr (.inr (some n)) :: st) S Q := CW.cast hC (fun m z => by
  cases z
  rw [show S.1 n = o from hn]
  refine ⟨h1, h2, Or.inl ?_⟩
  rcases Nat.lt_or_ge (ocls o) 100 with w | w
  · exact w
  · rw [Nat.ble_eq_true_of_le w] at h3; cases h3) k
theorem CW.aeq {r q : Option Nat} (hC : M.2.2.1[i]? = some (32, a, b)) (h1 : ∀ n, r = some n → ((S.1 n).1 == 0) = false) (h2 : ∀ n, q = some n → ((S.1 n).1 == 0) = false) (h3 : ∀ n m, r = some n → q = some m → 1000 ≤ n ∨ 1000 ≤ m) (kt : r = q → BW d M a ls st S Q) (kf : r ≠ q → BW d M (i + 1) ls st S Q) : BW d M i ls (.inr (.inr q) :: .inr (.inr r) :: st) S Q := by
  obtain ⟨H, fi, fr, t⟩ := S
  exact BW.aeq hC h1 h2 h3 kt kf
theorem CW.ane {r q : Option Nat} (hC : M.2.2.1[i]? = some (33, a, b)) (h1 : ∀ n, r = some n → ((S.1 n).1 == 0) = false) (h2 : ∀ n, q = some n → ((S.1 n).1 == 0) = false) (h3 : ∀ n m, r = some n → q = some m → 1000 ≤ n ∨ 1000 ≤ m) (kt : r ≠ q → BW d M a ls st S Q) (kf : r = q → BW d M (i + 1) ls st S Q) : BW d M i ls (.inr (.inr q) :: .inr (.inr r) :: st) S Q := by
  obtain ⟨H, fi, fr, t⟩ := S
  exact BW.ane hC h1 h2 h3 kt kf
theorem CW.thr {c : Nat} (hC : M.2.2.1[i]? = some (62, a, b)) (hn : Ob S n (oOwn c)) (hc : c = 5 ∨ c = 11) (hh : ghnd M.2.2.2 i = none) (h : Q (.inr (c, some n)) S) : BW d M i ls (.inr (.inr (some n)) :: st) S Q := by
  obtain ⟨H, fi, fr, t⟩ := S
  exact BW.thr hC hn hc hh h
theorem tagO {n tag : Nat} {o : Obj} (h : Ob S n o) (h1 : ocls o = tag) (h2 : (o.1 == 0) = false) : ∃ m, some (aR n) = some (aR m) ∧ ocls (S.1 m) = tag ∧ ((S.1 m).1 == 0) = false := ⟨n, rfl, by rw [show S.1 n = o from h]; exact h1, by rw [show S.1 n = o from h]; exact h2⟩
theorem CW.call {kind mid tag num : Nat} {as rest : List GV} {Q1 : GO → BS → Prop} (hC : M.2.2.1[i]? = some (60, a, b)) (hs : gsites[a]? = some (kind, mid, tag, num)) (hn : as.length = num) (hst : st = as.reverse ++ rest) (hr : Nat.ble ((rest.map gcat).sum) 8 = true)
    (htag : tag = 0 ∨ ∃ n, as.head? = some (aR n) ∧ ocls (S.1 n) = tag ∧ ((S.1 n).1 == 0) = false) (hin : (kind ≠ 4 ∧ kind ≠ 11) ∨ ∃ n, as.head? = some (aR n) ∧ 1000 ≤ n) (h : BM d mid as S Q1)
    (k : ∀ r S', Q1 (.inl r) S' → BW d M (i + 1) ls (r.toList ++ rest) S' Q)
    (kx : ∀ E q S', Q1 (.inr (E, q)) S' → (ghnd M.2.2.2 i = none ∧ Q (.inr (E, q)) S') ∨ ∃ h n, ghnd M.2.2.2 i = some (h, E) ∧ q = some n ∧ BW d M h ls [.inr (.inr (some n))] S' Q) : BW d M i ls st S Q := by
  obtain ⟨H, fi, fr, t⟩ := S
  exact BW.call hC hs hn hst hr htag hin h k kx
theorem CW.c0 {kind mid tag : Nat} {Q1 : Option GV → BS → Prop} (hC : M.2.2.1[i]? = some (60, a, b)) (hs : gsites[a]? = some (kind, mid, tag, 0)) (htag : tag = 0 ∨ ∃ n, (none : Option GV) = some (aR n) ∧ ocls (S.1 n) = tag ∧ ((S.1 n).1 == 0) = false) (hin : (kind ≠ 4 ∧ kind ≠ 11) ∨ ∃ n, (none : Option GV) = some (aR n) ∧ 1000 ≤ n) (hr : Nat.ble ((st.map gcat).sum) 8 = true) (h : BMr d mid [] S Q1) (k : ∀ r S', Q1 r S' → BW d M (i + 1) ls (r.toList ++ st) S' Q) : BW d M i ls (st) S Q := by
  obtain ⟨H, fi, fr, t⟩ := S
  exact BW.cr (as := []) hC hs rfl rfl hr htag hin h k
theorem CW.x0 {kind mid tag : Nat} {Q1 : GO → BS → Prop} (hC : M.2.2.1[i]? = some (60, a, b)) (hs : gsites[a]? = some (kind, mid, tag, 0)) (htag : tag = 0 ∨ ∃ n, (none : Option GV) = some (aR n) ∧ ocls (S.1 n) = tag ∧ ((S.1 n).1 == 0) = false) (hin : (kind ≠ 4 ∧ kind ≠ 11) ∨ ∃ n, (none : Option GV) = some (aR n) ∧ 1000 ≤ n) (hr : Nat.ble ((st.map gcat).sum) 8 = true) (hh : ghnd M.2.2.2 i = none) (h : BM d mid [] S Q1) (k : ∀ r S', Q1 (.inl r) S' → BW d M (i + 1) ls (r.toList ++ st) S' Q) (kx : ∀ E q S', Q1 (.inr (E, q)) S' → Q (.inr (E, q)) S') : BW d M i ls (st) S Q :=
  CW.call (as := []) hC hs rfl rfl hr htag hin h k (fun E q S' z => Or.inl ⟨hh, kx E q S' z⟩)
theorem CW.c1 {kind mid tag : Nat} {v0 : GV} {Q1 : Option GV → BS → Prop} (hC : M.2.2.1[i]? = some (60, a, b)) (hs : gsites[a]? = some (kind, mid, tag, 1)) (htag : tag = 0 ∨ ∃ n, (some v0 : Option GV) = some (aR n) ∧ ocls (S.1 n) = tag ∧ ((S.1 n).1 == 0) = false) (hin : (kind ≠ 4 ∧ kind ≠ 11) ∨ ∃ n, (some v0 : Option GV) = some (aR n) ∧ 1000 ≤ n) (hr : Nat.ble ((st.map gcat).sum) 8 = true) (h : BMr d mid [v0] S Q1) (k : ∀ r S', Q1 r S' → BW d M (i + 1) ls (r.toList ++ st) S' Q) : BW d M i ls (v0 :: st) S Q := by
  obtain ⟨H, fi, fr, t⟩ := S
  exact BW.cr (as := [v0]) hC hs rfl rfl hr htag hin h k
theorem CW.x1 {kind mid tag : Nat} {v0 : GV} {Q1 : GO → BS → Prop} (hC : M.2.2.1[i]? = some (60, a, b)) (hs : gsites[a]? = some (kind, mid, tag, 1)) (htag : tag = 0 ∨ ∃ n, (some v0 : Option GV) = some (aR n) ∧ ocls (S.1 n) = tag ∧ ((S.1 n).1 == 0) = false) (hin : (kind ≠ 4 ∧ kind ≠ 11) ∨ ∃ n, (some v0 : Option GV) = some (aR n) ∧ 1000 ≤ n) (hr : Nat.ble ((st.map gcat).sum) 8 = true) (hh : ghnd M.2.2.2 i = none) (h : BM d mid [v0] S Q1) (k : ∀ r S', Q1 (.inl r) S' → BW d M (i + 1) ls (r.toList ++ st) S' Q) (kx : ∀ E q S', Q1 (.inr (E, q)) S' → Q (.inr (E, q)) S') : BW d M i ls (v0 :: st) S Q :=
  CW.call (as := [v0]) hC hs rfl rfl hr htag hin h k (fun E q S' z => Or.inl ⟨hh, kx E q S' z⟩)
theorem CW.c2 {kind mid tag : Nat} {v0 v1 : GV} {Q1 : Option GV → BS → Prop} (hC : M.2.2.1[i]? = some (60, a, b)) (hs : gsites[a]? = some (kind, mid, tag, 2)) (htag : tag = 0 ∨ ∃ n, (some v0 : Option GV) = some (aR n) ∧ ocls (S.1 n) = tag ∧ ((S.1 n).1 == 0) = false) (hin : (kind ≠ 4 ∧ kind ≠ 11) ∨ ∃ n, (some v0 : Option GV) = some (aR n) ∧ 1000 ≤ n) (hr : Nat.ble ((st.map gcat).sum) 8 = true) (h : BMr d mid [v0, v1] S Q1) (k : ∀ r S', Q1 r S' → BW d M (i + 1) ls (r.toList ++ st) S' Q) : BW d M i ls (v1 :: v0 :: st) S Q := by
  obtain ⟨H, fi, fr, t⟩ := S
  exact BW.cr (as := [v0, v1]) hC hs rfl rfl hr htag hin h k
theorem CW.x2 {kind mid tag : Nat} {v0 v1 : GV} {Q1 : GO → BS → Prop} (hC : M.2.2.1[i]? = some (60, a, b)) (hs : gsites[a]? = some (kind, mid, tag, 2)) (htag : tag = 0 ∨ ∃ n, (some v0 : Option GV) = some (aR n) ∧ ocls (S.1 n) = tag ∧ ((S.1 n).1 == 0) = false) (hin : (kind ≠ 4 ∧ kind ≠ 11) ∨ ∃ n, (some v0 : Option GV) = some (aR n) ∧ 1000 ≤ n) (hr : Nat.ble ((st.map gcat).sum) 8 = true) (hh : ghnd M.2.2.2 i = none) (h : BM d mid [v0, v1] S Q1) (k : ∀ r S', Q1 (.inl r) S' → BW d M (i + 1) ls (r.toList ++ st) S' Q) (kx : ∀ E q S', Q1 (.inr (E, q)) S' → Q (.inr (E, q)) S') : BW d M i ls (v1 :: v0 :: st) S Q :=
  CW.call (as := [v0, v1]) hC hs rfl rfl hr htag hin h k (fun E q S' z => Or.inl ⟨hh, kx E q S' z⟩)
theorem CW.c3 {kind mid tag : Nat} {v0 v1 v2 : GV} {Q1 : Option GV → BS → Prop} (hC : M.2.2.1[i]? = some (60, a, b)) (hs : gsites[a]? = some (kind, mid, tag, 3)) (htag : tag = 0 ∨ ∃ n, (some v0 : Option GV) = some (aR n) ∧ ocls (S.1 n) = tag ∧ ((S.1 n).1 == 0) = false) (hin : (kind ≠ 4 ∧ kind ≠ 11) ∨ ∃ n, (some v0 : Option GV) = some (aR n) ∧ 1000 ≤ n) (hr : Nat.ble ((st.map gcat).sum) 8 = true) (h : BMr d mid [v0, v1, v2] S Q1) (k : ∀ r S', Q1 r S' → BW d M (i + 1) ls (r.toList ++ st) S' Q) : BW d M i ls (v2 :: v1 :: v0 :: st) S Q := by
  obtain ⟨H, fi, fr, t⟩ := S
  exact BW.cr (as := [v0, v1, v2]) hC hs rfl rfl hr htag hin h k
theorem CW.x3 {kind mid tag : Nat} {v0 v1 v2 : GV} {Q1 : GO → BS → Prop} (hC : M.2.2.1[i]? = some (60, a, b)) (hs : gsites[a]? = some (kind, mid, tag, 3)) (htag : tag = 0 ∨ ∃ n, (some v0 : Option GV) = some (aR n) ∧ ocls (S.1 n) = tag ∧ ((S.1 n).1 == 0) = false) (hin : (kind ≠ 4 ∧ kind ≠ 11) ∨ ∃ n, (some v0 : Option GV) = some (aR n) ∧ 1000 ≤ n) (hr : Nat.ble ((st.map gcat).sum) 8 = true) (hh : ghnd M.2.2.2 i = none) (h : BM d mid [v0, v1, v2] S Q1) (k : ∀ r S', Q1 (.inl r) S' → BW d M (i + 1) ls (r.toList ++ st) S' Q) (kx : ∀ E q S', Q1 (.inr (E, q)) S' → Q (.inr (E, q)) S') : BW d M i ls (v2 :: v1 :: v0 :: st) S Q :=
  CW.call (as := [v0, v1, v2]) hC hs rfl rfl hr htag hin h k (fun E q S' z => Or.inl ⟨hh, kx E q S' z⟩)
theorem CW.c4 {kind mid tag : Nat} {v0 v1 v2 v3 : GV} {Q1 : Option GV → BS → Prop} (hC : M.2.2.1[i]? = some (60, a, b)) (hs : gsites[a]? = some (kind, mid, tag, 4)) (htag : tag = 0 ∨ ∃ n, (some v0 : Option GV) = some (aR n) ∧ ocls (S.1 n) = tag ∧ ((S.1 n).1 == 0) = false) (hin : (kind ≠ 4 ∧ kind ≠ 11) ∨ ∃ n, (some v0 : Option GV) = some (aR n) ∧ 1000 ≤ n) (hr : Nat.ble ((st.map gcat).sum) 8 = true) (h : BMr d mid [v0, v1, v2, v3] S Q1) (k : ∀ r S', Q1 r S' → BW d M (i + 1) ls (r.toList ++ st) S' Q) : BW d M i ls (v3 :: v2 :: v1 :: v0 :: st) S Q := by
  obtain ⟨H, fi, fr, t⟩ := S
  exact BW.cr (as := [v0, v1, v2, v3]) hC hs rfl rfl hr htag hin h k
theorem CW.x4 {kind mid tag : Nat} {v0 v1 v2 v3 : GV} {Q1 : GO → BS → Prop} (hC : M.2.2.1[i]? = some (60, a, b)) (hs : gsites[a]? = some (kind, mid, tag, 4)) (htag : tag = 0 ∨ ∃ n, (some v0 : Option GV) = some (aR n) ∧ ocls (S.1 n) = tag ∧ ((S.1 n).1 == 0) = false) (hin : (kind ≠ 4 ∧ kind ≠ 11) ∨ ∃ n, (some v0 : Option GV) = some (aR n) ∧ 1000 ≤ n) (hr : Nat.ble ((st.map gcat).sum) 8 = true) (hh : ghnd M.2.2.2 i = none) (h : BM d mid [v0, v1, v2, v3] S Q1) (k : ∀ r S', Q1 (.inl r) S' → BW d M (i + 1) ls (r.toList ++ st) S' Q) (kx : ∀ E q S', Q1 (.inr (E, q)) S' → Q (.inr (E, q)) S') : BW d M i ls (v3 :: v2 :: v1 :: v0 :: st) S Q :=
  CW.call (as := [v0, v1, v2, v3]) hC hs rfl rfl hr htag hin h k (fun E q S' z => Or.inl ⟨hh, kx E q S' z⟩)
theorem CW.c5 {kind mid tag : Nat} {v0 v1 v2 v3 v4 : GV} {Q1 : Option GV → BS → Prop} (hC : M.2.2.1[i]? = some (60, a, b)) (hs : gsites[a]? = some (kind, mid, tag, 5)) (htag : tag = 0 ∨ ∃ n, (some v0 : Option GV) = some (aR n) ∧ ocls (S.1 n) = tag ∧ ((S.1 n).1 == 0) = false) (hin : (kind ≠ 4 ∧ kind ≠ 11) ∨ ∃ n, (some v0 : Option GV) = some (aR n) ∧ 1000 ≤ n) (hr : Nat.ble ((st.map gcat).sum) 8 = true) (h : BMr d mid [v0, v1, v2, v3, v4] S Q1) (k : ∀ r S', Q1 r S' → BW d M (i + 1) ls (r.toList ++ st) S' Q) : BW d M i ls (v4 :: v3 :: v2 :: v1 :: v0 :: st) S Q := by
  obtain ⟨H, fi, fr, t⟩ := S
  exact BW.cr (as := [v0, v1, v2, v3, v4]) hC hs rfl rfl hr htag hin h k
theorem CW.x5 {kind mid tag : Nat} {v0 v1 v2 v3 v4 : GV} {Q1 : GO → BS → Prop} (hC : M.2.2.1[i]? = some (60, a, b)) (hs : gsites[a]? = some (kind, mid, tag, 5)) (htag : tag = 0 ∨ ∃ n, (some v0 : Option GV) = some (aR n) ∧ ocls (S.1 n) = tag ∧ ((S.1 n).1 == 0) = false) (hin : (kind ≠ 4 ∧ kind ≠ 11) ∨ ∃ n, (some v0 : Option GV) = some (aR n) ∧ 1000 ≤ n) (hr : Nat.ble ((st.map gcat).sum) 8 = true) (hh : ghnd M.2.2.2 i = none) (h : BM d mid [v0, v1, v2, v3, v4] S Q1) (k : ∀ r S', Q1 (.inl r) S' → BW d M (i + 1) ls (r.toList ++ st) S' Q) (kx : ∀ E q S', Q1 (.inr (E, q)) S' → Q (.inr (E, q)) S') : BW d M i ls (v4 :: v3 :: v2 :: v1 :: v0 :: st) S Q :=
  CW.call (as := [v0, v1, v2, v3, v4]) hC hs rfl rfl hr htag hin h k (fun E q S' z => Or.inl ⟨hh, kx E q S' z⟩)
theorem CW.c6 {kind mid tag : Nat} {v0 v1 v2 v3 v4 v5 : GV} {Q1 : Option GV → BS → Prop} (hC : M.2.2.1[i]? = some (60, a, b)) (hs : gsites[a]? = some (kind, mid, tag, 6)) (htag : tag = 0 ∨ ∃ n, (some v0 : Option GV) = some (aR n) ∧ ocls (S.1 n) = tag ∧ ((S.1 n).1 == 0) = false) (hin : (kind ≠ 4 ∧ kind ≠ 11) ∨ ∃ n, (some v0 : Option GV) = some (aR n) ∧ 1000 ≤ n) (hr : Nat.ble ((st.map gcat).sum) 8 = true) (h : BMr d mid [v0, v1, v2, v3, v4, v5] S Q1) (k : ∀ r S', Q1 r S' → BW d M (i + 1) ls (r.toList ++ st) S' Q) : BW d M i ls (v5 :: v4 :: v3 :: v2 :: v1 :: v0 :: st) S Q := by
  obtain ⟨H, fi, fr, t⟩ := S
  exact BW.cr (as := [v0, v1, v2, v3, v4, v5]) hC hs rfl rfl hr htag hin h k
theorem CW.x6 {kind mid tag : Nat} {v0 v1 v2 v3 v4 v5 : GV} {Q1 : GO → BS → Prop} (hC : M.2.2.1[i]? = some (60, a, b)) (hs : gsites[a]? = some (kind, mid, tag, 6)) (htag : tag = 0 ∨ ∃ n, (some v0 : Option GV) = some (aR n) ∧ ocls (S.1 n) = tag ∧ ((S.1 n).1 == 0) = false) (hin : (kind ≠ 4 ∧ kind ≠ 11) ∨ ∃ n, (some v0 : Option GV) = some (aR n) ∧ 1000 ≤ n) (hr : Nat.ble ((st.map gcat).sum) 8 = true) (hh : ghnd M.2.2.2 i = none) (h : BM d mid [v0, v1, v2, v3, v4, v5] S Q1) (k : ∀ r S', Q1 (.inl r) S' → BW d M (i + 1) ls (r.toList ++ st) S' Q) (kx : ∀ E q S', Q1 (.inr (E, q)) S' → Q (.inr (E, q)) S') : BW d M i ls (v5 :: v4 :: v3 :: v2 :: v1 :: v0 :: st) S Q :=
  CW.call (as := [v0, v1, v2, v3, v4, v5]) hC hs rfl rfl hr htag hin h k (fun E q S' z => Or.inl ⟨hh, kx E q S' z⟩)
theorem CW.e0 {kind mid tag : Nat} {v : Option GV} (hC : M.2.2.1[i]? = some (60, a, b)) (hs : gsites[a]? = some (kind, mid, tag, 0)) (htag : tag = 0 ∨ ∃ n, (none : Option GV) = some (aR n) ∧ ocls (S.1 n) = tag ∧ ((S.1 n).1 == 0) = false) (hin : (kind ≠ 4 ∧ kind ≠ 11) ∨ ∃ n, (none : Option GV) = some (aR n) ∧ 1000 ≤ n) (hr : Nat.ble ((st.map gcat).sum) 8 = true) (h : BE d mid [] S v) (k : BW d M (i + 1) ls (v.toList ++ st) S Q) : BW d M i ls (st) S Q := CW.c0 hC hs htag hin hr h (fun r S' ⟨h1, h2⟩ => by subst h1 h2; exact k)
theorem CW.e1 {kind mid tag : Nat} {v0 : GV} {v : Option GV} (hC : M.2.2.1[i]? = some (60, a, b)) (hs : gsites[a]? = some (kind, mid, tag, 1)) (htag : tag = 0 ∨ ∃ n, (some v0 : Option GV) = some (aR n) ∧ ocls (S.1 n) = tag ∧ ((S.1 n).1 == 0) = false) (hin : (kind ≠ 4 ∧ kind ≠ 11) ∨ ∃ n, (some v0 : Option GV) = some (aR n) ∧ 1000 ≤ n) (hr : Nat.ble ((st.map gcat).sum) 8 = true) (h : BE d mid [v0] S v) (k : BW d M (i + 1) ls (v.toList ++ st) S Q) : BW d M i ls (v0 :: st) S Q := CW.c1 hC hs htag hin hr h (fun r S' ⟨h1, h2⟩ => by subst h1 h2; exact k)
theorem CW.e2 {kind mid tag : Nat} {v0 v1 : GV} {v : Option GV} (hC : M.2.2.1[i]? = some (60, a, b)) (hs : gsites[a]? = some (kind, mid, tag, 2)) (htag : tag = 0 ∨ ∃ n, (some v0 : Option GV) = some (aR n) ∧ ocls (S.1 n) = tag ∧ ((S.1 n).1 == 0) = false) (hin : (kind ≠ 4 ∧ kind ≠ 11) ∨ ∃ n, (some v0 : Option GV) = some (aR n) ∧ 1000 ≤ n) (hr : Nat.ble ((st.map gcat).sum) 8 = true) (h : BE d mid [v0, v1] S v) (k : BW d M (i + 1) ls (v.toList ++ st) S Q) : BW d M i ls (v1 :: v0 :: st) S Q := CW.c2 hC hs htag hin hr h (fun r S' ⟨h1, h2⟩ => by subst h1 h2; exact k)
theorem CW.e3 {kind mid tag : Nat} {v0 v1 v2 : GV} {v : Option GV} (hC : M.2.2.1[i]? = some (60, a, b)) (hs : gsites[a]? = some (kind, mid, tag, 3)) (htag : tag = 0 ∨ ∃ n, (some v0 : Option GV) = some (aR n) ∧ ocls (S.1 n) = tag ∧ ((S.1 n).1 == 0) = false) (hin : (kind ≠ 4 ∧ kind ≠ 11) ∨ ∃ n, (some v0 : Option GV) = some (aR n) ∧ 1000 ≤ n) (hr : Nat.ble ((st.map gcat).sum) 8 = true) (h : BE d mid [v0, v1, v2] S v) (k : BW d M (i + 1) ls (v.toList ++ st) S Q) : BW d M i ls (v2 :: v1 :: v0 :: st) S Q := CW.c3 hC hs htag hin hr h (fun r S' ⟨h1, h2⟩ => by subst h1 h2; exact k)
theorem CW.e4 {kind mid tag : Nat} {v0 v1 v2 v3 : GV} {v : Option GV} (hC : M.2.2.1[i]? = some (60, a, b)) (hs : gsites[a]? = some (kind, mid, tag, 4)) (htag : tag = 0 ∨ ∃ n, (some v0 : Option GV) = some (aR n) ∧ ocls (S.1 n) = tag ∧ ((S.1 n).1 == 0) = false) (hin : (kind ≠ 4 ∧ kind ≠ 11) ∨ ∃ n, (some v0 : Option GV) = some (aR n) ∧ 1000 ≤ n) (hr : Nat.ble ((st.map gcat).sum) 8 = true) (h : BE d mid [v0, v1, v2, v3] S v) (k : BW d M (i + 1) ls (v.toList ++ st) S Q) : BW d M i ls (v3 :: v2 :: v1 :: v0 :: st) S Q := CW.c4 hC hs htag hin hr h (fun r S' ⟨h1, h2⟩ => by subst h1 h2; exact k)
theorem CW.e5 {kind mid tag : Nat} {v0 v1 v2 v3 v4 : GV} {v : Option GV} (hC : M.2.2.1[i]? = some (60, a, b)) (hs : gsites[a]? = some (kind, mid, tag, 5)) (htag : tag = 0 ∨ ∃ n, (some v0 : Option GV) = some (aR n) ∧ ocls (S.1 n) = tag ∧ ((S.1 n).1 == 0) = false) (hin : (kind ≠ 4 ∧ kind ≠ 11) ∨ ∃ n, (some v0 : Option GV) = some (aR n) ∧ 1000 ≤ n) (hr : Nat.ble ((st.map gcat).sum) 8 = true) (h : BE d mid [v0, v1, v2, v3, v4] S v) (k : BW d M (i + 1) ls (v.toList ++ st) S Q) : BW d M i ls (v4 :: v3 :: v2 :: v1 :: v0 :: st) S Q := CW.c5 hC hs htag hin hr h (fun r S' ⟨h1, h2⟩ => by subst h1 h2; exact k)
theorem CW.e6 {kind mid tag : Nat} {v0 v1 v2 v3 v4 v5 : GV} {v : Option GV} (hC : M.2.2.1[i]? = some (60, a, b)) (hs : gsites[a]? = some (kind, mid, tag, 6)) (htag : tag = 0 ∨ ∃ n, (some v0 : Option GV) = some (aR n) ∧ ocls (S.1 n) = tag ∧ ((S.1 n).1 == 0) = false) (hin : (kind ≠ 4 ∧ kind ≠ 11) ∨ ∃ n, (some v0 : Option GV) = some (aR n) ∧ 1000 ≤ n) (hr : Nat.ble ((st.map gcat).sum) 8 = true) (h : BE d mid [v0, v1, v2, v3, v4, v5] S v) (k : BW d M (i + 1) ls (v.toList ++ st) S Q) : BW d M i ls (v5 :: v4 :: v3 :: v2 :: v1 :: v0 :: st) S Q := CW.c6 hC hs htag hin hr h (fun r S' ⟨h1, h2⟩ => by subst h1 h2; exact k)
end CW
