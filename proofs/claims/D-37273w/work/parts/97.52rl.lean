-- C
set_option maxRecDepth 100000
/-! relations that runs keep: strings, readers, patterns, addresses, orders as objects; F: where they lie -/
def StrIs (S : BS) (r : Option Nat) (s : List Int) : Prop := ∃ y, r = some y ∧ Ob S y (oStr s)
/-- a string that is no constant, but for the empty one that substring gives -/
def okS (r : Option Nat) : Prop := ∀ y, r = some y → 1000 ≤ y ∨ y = 260
def StrB (S : BS) (r : Option Nat) (s : List Int) : Prop := StrIs S r s ∧ okS r
def StrsIs (S : BS) (xs : List (Option Nat)) (rows : List (List Int)) : Prop := xs.length = rows.length ∧ ∀ j, j < rows.length → StrB S (xs.getD j none) (rows.getD j [])
def PartF (S : BS) (F : Nat → Prop) (r : Option Nat) (p : SPart) : Prop := ∃ m x, r = some m ∧ F m ∧ Ob S m (oOwn 8) ∧ Fi S 62 m p.1 ∧ Fi S 63 m p.2.1 ∧ Fe S 64 m x ∧ StrIs S x p.2.2.1 ∧ Fi S 65 m (b2i p.2.2.2)

def noPart : SPart := (0, 0, [], false)
def PtsE (S : BS) (F : Nat → Prop) (xs : List (Option Nat)) (ps : List SPart) : Prop := xs.length = ps.length ∧ ∀ j, j < ps.length → PartF S F (xs.getD j none) (ps.getD j noPart)
def PatIs (S : BS) (F : Nat → Prop) (p : Nat) (pt : SPat) : Prop := ∃ q cap xs u w us ws, (F p ∧ F q ∧ F u ∧ F w ∧ u ≠ w) ∧ Ob S p (oOwn 9) ∧ Fe S 66 p (some q) ∧ Ob S q (oAl xs cap) ∧ PtsE S F xs pt.1 ∧ Fi S 67 p (b2i pt.2.1) ∧ Fi S 68 p (b2i pt.2.2) ∧ Fe S 69 p (some u) ∧ Fe S 70 p (some w) ∧ (Ob S u (oIa us) ∧ us.length = 3) ∧ Ob S w (oIa ws) ∧ ws.length = 3
def AdrIs (S : BS) (F : Nat → Prop) (a : Nat) (v : SAdr) : Prop := F a ∧ Ob S a (oOwn 2) ∧ Fi S 18 a v.1 ∧ Fi S 19 a v.2.1 ∧ Fi S 21 a v.2.2.2.1 ∧ Fi S 22 a (b2i v.2.2.2.2) ∧ ∃ r, Fe S 20 a r ∧ (v.1 = 47 ∨ v.1 = 63 → ∃ p, r = some p ∧ PatIs S F p v.2.2.1)
def AdO (S : BS) (F : Nat → Prop) (r : Option Nat) (o : Option SAdr) : Prop := match o with
  | none => r = none
  | some v => ∃ a, r = some a ∧ AdrIs S F a v
theorem oNeS {o : Obj} {s : List Int} (h : (o.1 == 1) = false) : o ≠ oStr s := fun z => by rw [z] at h; cases h
section RL
variable {S S' : BS} {W F F' : Nat → Prop} {c a n m p : Nat} {r : Option Nat} {s l : List Int} {xs : List (Option Nat)} {rows : List (List Int)} {pt : SPat} {ps : List SPart} {q : SPart} {v : SAdr} {vo : Option SAdr}
theorem StrIs.fr (h : StrIs S r s) (hF : Fr S S' W c) (hs : NoS S W) : StrIs S' r s := by
  obtain ⟨y, h1, h2⟩ := h
  exact ⟨y, h1, h2.fr hF ⟨oNe rfl, fun z => hs y z (by rw [show S.1 y = oStr s from h2]; rfl)⟩⟩
theorem StrIs.pu (h : StrIs S r s) (hP : Pu S S' a n) (_ : True) : StrIs S' r s := by
  obtain ⟨y, h1, h2⟩ := h
  exact ⟨y, h1, h2.pu hP trivial⟩
theorem okS.mk {y : Nat} (h : 1000 ≤ y ∨ y = 260) : okS (some y) := fun _ z => by cases z; exact h
theorem StrB.fr (h : StrB S r s) (hF : Fr S S' W c) (hs : NoS S W) : StrB S' r s := ⟨h.1.fr hF hs, h.2⟩
theorem StrB.pu (h : StrB S r s) (hP : Pu S S' a n) (ht : True) : StrB S' r s := ⟨h.1.pu hP ht, h.2⟩
theorem StrsIs.fr (h : StrsIs S xs rows) (hF : Fr S S' W c) (hs : NoS S W) : StrsIs S' xs rows := ⟨h.1, fun j hj => (h.2 j hj).fr hF hs⟩
theorem StrsIs.pu (h : StrsIs S xs rows) (hP : Pu S S' a n) (ht : True) : StrsIs S' xs rows := ⟨h.1, fun j hj => (h.2 j hj).pu hP ht⟩
theorem StrsIs.nil : StrsIs S [] [] := ⟨rfl, fun j hj => absurd hj (Nat.not_lt_zero j)⟩
theorem getD_app {α : Type} (xs : List α) (x z : α) (j : Nat) (hj : j < xs.length + 1) : (xs ++ [x]).getD j z = if j = xs.length then x else xs.getD j z := by
  rw [List.getD_eq_getElem?_getD, List.getD_eq_getElem?_getD]
  by_cases e : j = xs.length
  · rw [if_pos e, e]; simp
  · rw [if_neg e, List.getElem?_append_left (by omega)]
theorem StrsIs.app (h : StrsIs S xs rows) (h2 : StrB S r s) : StrsIs S (xs ++ [r]) (rows ++ [s]) := by
  refine ⟨by simp [h.1], fun j hj => ?_⟩
  have hj : j < rows.length + 1 := by simpa using hj
  rw [getD_app _ _ _ _ (by rw [h.1]; exact hj), getD_app _ _ _ _ hj, h.1]
  by_cases e : j = rows.length
  · rw [if_pos e, if_pos e]; exact h2
  · rw [if_neg e, if_neg e]; exact h.2 j (by omega)
theorem Av.sp9 (h : Av F W) (hm : F m) : Sep S W m := fun z => h m z hm
theorem PartF.fr (h : PartF S F r q) (hF : Fr S S' W c) (hs : NoS S W ∧ Av F W) : PartF S' F r q := by
  obtain ⟨m, x, h1, h2, h3, h4, h5, h6, h7, h8⟩ := h
  have e := h3.old (oNe rfl)
  have sp : Sep S W m := hs.2.sp9 h2
  exact ⟨m, x, h1, h2, h3.fr hF ⟨oNe rfl, sp⟩, h4.fr hF ⟨⟨e, by decide⟩, sp⟩, h5.fr hF ⟨⟨e, by decide⟩, sp⟩, h6.fr hF ⟨⟨e, by decide⟩, sp⟩, h7.fr hF hs.1, h8.fr hF ⟨⟨e, by decide⟩, sp⟩⟩
theorem PartF.pu (h : PartF S F r q) (hP : Pu S S' a n) (hs : ¬ F n) : PartF S' F r q := by
  obtain ⟨m, x, h1, h2, h3, h4, h5, h6, h7, h8⟩ := h
  have e : m ≠ n := fun z => hs (z ▸ h2)
  exact ⟨m, x, h1, h2, h3.pu hP trivial, h4.pu hP (Or.inr e), h5.pu hP (Or.inr e), h6.pu hP (Or.inr e), h7.pu hP trivial, h8.pu hP (Or.inr e)⟩
theorem PartF.mono (h : PartF S F r q) (hm : ∀ m, F m → F' m) : PartF S F' r q := by
  obtain ⟨m, x, h1, h2, h3⟩ := h
  exact ⟨m, x, h1, hm m h2, h3⟩
theorem PtsE.fr (h : PtsE S F xs ps) (hF : Fr S S' W c) (hs : NoS S W ∧ Av F W) : PtsE S' F xs ps := ⟨h.1, fun j hj => (h.2 j hj).fr hF hs⟩
theorem PtsE.pu (h : PtsE S F xs ps) (hP : Pu S S' a n) (hs : ¬ F n) : PtsE S' F xs ps := ⟨h.1, fun j hj => (h.2 j hj).pu hP hs⟩
theorem PtsE.mono (h : PtsE S F xs ps) (hm : ∀ m, F m → F' m) : PtsE S F' xs ps := ⟨h.1, fun j hj => (h.2 j hj).mono hm⟩
theorem PtsE.app (h : PtsE S F xs ps) (h2 : PartF S F r q) : PtsE S F (xs ++ [r]) (ps ++ [q]) := by
  refine ⟨by simp [h.1], fun j hj => ?_⟩
  have hj : j < ps.length + 1 := by simpa using hj
  rw [getD_app _ _ _ _ (by rw [h.1]; exact hj), getD_app _ _ _ _ hj, h.1]
  by_cases e : j = ps.length
  · rw [if_pos e, if_pos e]; exact h2
  · rw [if_neg e, if_neg e]; exact h.2 j (by omega)
theorem PatIs.fr (h : PatIs S F p pt) (hF : Fr S S' W c) (hs : NoS S W ∧ Av F W) : PatIs S' F p pt := by
  obtain ⟨q, cap, xs, u, w, us, ws, ⟨f1, f2, f3, f4, f5⟩, h1, h2, h3, h4, h5, h6, h7, h8, ⟨h9, h10⟩, h11, h12⟩ := h
  have e := h1.old (oNe rfl)
  have sp : Sep S W p := hs.2.sp9 f1
  exact ⟨q, cap, xs, u, w, us, ws, ⟨f1, f2, f3, f4, f5⟩, h1.fr hF ⟨oNe rfl, sp⟩, h2.fr hF ⟨⟨e, by decide⟩, sp⟩, h3.fr hF ⟨oNe rfl, hs.2.sp9 f2⟩, h4.fr hF hs, h5.fr hF ⟨⟨e, by decide⟩, sp⟩, h6.fr hF ⟨⟨e, by decide⟩, sp⟩, h7.fr hF ⟨⟨e, by decide⟩, sp⟩, h8.fr hF ⟨⟨e, by decide⟩, sp⟩, ⟨h9.fr hF ⟨oNe rfl, hs.2.sp9 f3⟩, h10⟩, h11.fr hF ⟨oNe rfl, hs.2.sp9 f4⟩, h12⟩
theorem PatIs.pu (h : PatIs S F p pt) (hP : Pu S S' a n) (hs : ¬ F n) : PatIs S' F p pt := by
  obtain ⟨q, cap, xs, u, w, us, ws, ⟨f1, f2, f3, f4, f5⟩, h1, h2, h3, h4, h5, h6, h7, h8, ⟨h9, h10⟩, h11, h12⟩ := h
  have e : p ≠ n := fun z => hs (z ▸ f1)
  exact ⟨q, cap, xs, u, w, us, ws, ⟨f1, f2, f3, f4, f5⟩, h1.pu hP trivial, h2.pu hP (Or.inr e), h3.pu hP trivial, h4.pu hP hs, h5.pu hP (Or.inr e), h6.pu hP (Or.inr e), h7.pu hP (Or.inr e), h8.pu hP (Or.inr e), ⟨h9.pu hP trivial, h10⟩, h11.pu hP trivial, h12⟩
theorem PatIs.mono (h : PatIs S F p pt) (hm : ∀ m, F m → F' m) : PatIs S F' p pt := by
  obtain ⟨q, cap, xs, u, w, us, ws, ⟨f1, f2, f3, f4, f5⟩, h1, h2, h3, h4, h5⟩ := h
  exact ⟨q, cap, xs, u, w, us, ws, ⟨hm _ f1, hm _ f2, hm _ f3, hm _ f4, f5⟩, h1, h2, h3, h4.mono hm, h5⟩
theorem AdrIs.fr (h : AdrIs S F m v) (hF : Fr S S' W c) (hs : NoS S W ∧ Av F W) : AdrIs S' F m v := by
  obtain ⟨f, h1, h2, h3, h4, h5, r, h6, h7⟩ := h
  have e := h1.old (oNe rfl)
  have sp : Sep S W m := hs.2.sp9 f
  refine ⟨f, h1.fr hF ⟨oNe rfl, sp⟩, h2.fr hF ⟨⟨e, by decide⟩, sp⟩, h3.fr hF ⟨⟨e, by decide⟩, sp⟩, h4.fr hF ⟨⟨e, by decide⟩, sp⟩, h5.fr hF ⟨⟨e, by decide⟩, sp⟩, r, h6.fr hF ⟨⟨e, by decide⟩, sp⟩, fun z => ?_⟩
  obtain ⟨p, a1, a2⟩ := h7 z
  exact ⟨p, a1, a2.fr hF hs⟩
theorem AdrIs.pu (h : AdrIs S F m v) (hP : Pu S S' a n) (hs : ¬ F n) : AdrIs S' F m v := by
  obtain ⟨f, h1, h2, h3, h4, h5, r, h6, h7⟩ := h
  have e : m ≠ n := fun z => hs (z ▸ f)
  refine ⟨f, h1.pu hP trivial, h2.pu hP (Or.inr e), h3.pu hP (Or.inr e), h4.pu hP (Or.inr e), h5.pu hP (Or.inr e), r, h6.pu hP (Or.inr e), fun z => ?_⟩
  obtain ⟨p, a1, a2⟩ := h7 z
  exact ⟨p, a1, a2.pu hP hs⟩
theorem AdrIs.mono (h : AdrIs S F m v) (hm : ∀ m, F m → F' m) : AdrIs S F' m v := by
  obtain ⟨f, h1, h2, h3, h4, h5, r, h6, h7⟩ := h
  exact ⟨hm _ f, h1, h2, h3, h4, h5, r, h6, fun z => (h7 z).imp (fun p hp => ⟨hp.1, hp.2.mono hm⟩)⟩
theorem AdO.fr (h : AdO S F r vo) (hF : Fr S S' W c) (hs : NoS S W ∧ Av F W) : AdO S' F r vo := by
  cases vo with
  | none => exact h
  | some v => exact Exists.imp (fun a ha => ⟨ha.1, ha.2.fr hF hs⟩) h
theorem AdO.pu (h : AdO S F r vo) (hP : Pu S S' a n) (hs : ¬ F n) : AdO S' F r vo := by
  cases vo with
  | none => exact h
  | some v => exact Exists.imp (fun a ha => ⟨ha.1, ha.2.pu hP hs⟩) h
theorem AdO.mono (h : AdO S F r vo) (hm : ∀ m, F m → F' m) : AdO S F' r vo := by
  cases vo with
  | none => exact h
  | some v => exact Exists.imp (fun a ha => ⟨ha.1, ha.2.mono hm⟩) h
/-! the reader -/
theorem RdAt.ob (h : RdAt S n s l) : Ob S n (oOwn 10) := h.1
theorem RdAt.fr (h : RdAt S n s l) (hF : Fr S S' W c) (hs : NoS S W ∧ Sep S W n) : RdAt S' n s l := by
  obtain ⟨h1, ⟨x, h2, h3⟩, h4, h5, k, h6, h7, h8⟩ := h
  have e := (show Ob S n (oOwn 10) from h1).old (oNe rfl)
  have a := hF.2.1 n e hs.2
  have b := hF.2.1 x (by rw [h3]; exact oNe rfl) (fun z => hs.1 x z (by rw [h3]; rfl))
  exact ⟨a.1.trans h1, ⟨x, (a.2 74 (by decide)).2.trans h2, b.1.trans h3⟩, h4, h5, k, (a.2 75 (by decide)).1.trans h6, h7, h8⟩
theorem RdAt.pu (h : RdAt S n s l) (hP : Pu S S' a m) (hs : (a ≠ 75 ∧ a ≠ 74) ∨ n ≠ m) : RdAt S' n s l := by
  obtain ⟨h1, ⟨x, h2, h3⟩, h4, h5, k, h6, h7, h8⟩ := h
  have e4 : 74 ≠ a ∨ n ≠ m := hs.imp (fun z => z.2.symm) id
  have e5 : 75 ≠ a ∨ n ≠ m := hs.imp (fun z => z.1.symm) id
  exact ⟨(congrFun hP.1 n).trans h1, ⟨x, (hP.2.2 74 n e4).2.trans h2, (congrFun hP.1 x).trans h3⟩, h4, h5, k, (hP.2.2 75 n e5).1.trans h6, h7, h8⟩
/-- one sign on -/
theorem RdAt.on {c0 v : Int} (h : RdAt S n s (c0 :: l)) (hP : Pu S S' 75 n) (hv : Fi S' 75 n v) (hx : v = (s.length : Int) - l.length) : RdAt S' n s l := by
  obtain ⟨h1, ⟨y, h2, h3⟩, h4, h5, k, h6, h7, h8⟩ := h
  have hd := drop_len h7 h8
  simp at hd
  refine ⟨(congrFun hP.1 n).trans h1, ⟨y, (hP.2.2 74 n (Or.inl (by decide))).2.trans h2, (congrFun hP.1 y).trans h3⟩, h4, h5, k + 1, ?_, ?_, ?_⟩
  · have e : S'.2.1 75 n = v := hv
    rw [e, hx]; omega
  · omega
  · rw [← List.drop_drop, h8]; rfl
theorem RdAt.fi (h : RdAt S n s l) : Fi S 75 n ((s.length : Int) - l.length) := h.at.1
theorem rdGo_pu {k : Int} : Pu S (rdGo S n k) 75 n := ⟨rfl, rfl, fun F m h => ⟨if_neg (fun z => h.elim (fun w => w z.1) (fun w => w z.2)), rfl⟩⟩
end RL
