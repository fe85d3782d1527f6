-- C
set_option maxRecDepth 100000
/-! orders as objects -/
section T3
variable {S S' S1 S2 : BS} {W F : Nat → Prop} {c c2 n m q k : Nat}
theorem Sep.three (h : Sep S (fun k => k = n) m) (h1 : Sep S (fun k => k = q) m) (h2 : Sep S (fun j => j = k) m) : Sep S (fun j => j = n ∨ j = q ∨ j = k) m := fun z => z.elim h (fun z => z.elim h1 h2)
theorem NoS.three (h : NoS S (fun k => k = n)) (h1 : NoS S (fun k => k = q)) (h2 : NoS S (fun j => j = k)) : NoS S (fun j => j = n ∨ j = q ∨ j = k) := fun m z => z.elim (h m) (fun z => z.elim (h1 m) (h2 m))
theorem Av.three (h : Av F (fun k => k = n)) (h1 : Av F (fun k => k = q)) (h2 : Av F (fun j => j = k)) : Av F (fun j => j = n ∨ j = q ∨ j = k) := fun m z => z.elim (h m) (fun z => z.elim (h1 m) (h2 m))
theorem Fr.f3 (hA : Fr S S1 W c) (hF : Fr S1 S2 (fun j => j = m ∨ j = n ∨ j = k) c2) (hm : S.1 m ≠ oNil → W m) (hn : S.1 n ≠ oNil → W n) (hk : S.1 k ≠ oNil → W k) : Fr S S2 W (c + c2) := hA.tr hF (fun j hj z => by
  rcases z with z | z | z
  · rw [z]; exact hm (by rw [← z]; exact hj)
  · rw [z]; exact hn (by rw [← z]; exact hj)
  · rw [z]; exact hk (by rw [← z]; exact hj))
end T3
/-- a list's entries are objects of a kind -/
def Els {α : Type} (P : Nat → α → Prop) (d : α) (xs : List (Option Nat)) (vs : List α) : Prop := xs.length = vs.length ∧ ∀ j, j < vs.length → ∃ k, (xs.getD j none = some k ∧ ∀ i, i < j → xs.getD i none ≠ some k) ∧ P k (vs.getD j d)
theorem Els.nil {α : Type} {P : Nat → α → Prop} {d : α} : Els P d [] [] := ⟨rfl, fun j hj => absurd hj (Nat.not_lt_zero j)⟩
theorem Els.app {α : Type} {P : Nat → α → Prop} {d v : α} {xs : List (Option Nat)} {vs : List α} {k : Nat} (h : Els P d xs vs) (hk : P k v) (hn : ∀ i, i < xs.length → xs.getD i none ≠ some k) : Els P d (xs ++ [some k]) (vs ++ [v]) := by
  refine ⟨by simp [h.1], fun j hj => ?_⟩
  have hl := h.1
  have hj : j < vs.length + 1 := by simpa using hj
  have lo : ∀ i, i < j → (xs ++ [some k]).getD i none = xs.getD i none := fun i hi => by
    rw [getD_app xs (some k) none i (by omega), if_neg (by omega)]
  by_cases e : j = vs.length
  · refine ⟨k, ⟨?_, fun i hi => ?_⟩, ?_⟩
    · rw [getD_app xs (some k) none j (by omega), if_pos (by omega)]
    · rw [lo i hi]; exact hn i (by omega)
    · rw [getD_app vs v d j hj, if_pos e]; exact hk
  · obtain ⟨k', ⟨g1, g2⟩, g3⟩ := h.2 j (by omega)
    refine ⟨k', ⟨?_, fun i hi => ?_⟩, ?_⟩
    · rw [getD_app xs (some k) none j (by omega), if_neg (by omega)]; exact g1
    · rw [lo i hi]; exact g2 i hi
    · rw [getD_app vs v d j hj, if_neg e]; exact g3
theorem Els.imp {α : Type} {P P' : Nat → α → Prop} {d : α} {xs : List (Option Nat)} {vs : List α} (h : Els P d xs vs) (hp : ∀ k v, P k v → P' k v) : Els P' d xs vs := ⟨h.1, fun j hj => (h.2 j hj).imp (fun k hk => ⟨hk.1, hp _ _ hk.2⟩)⟩
/-- what stands behind an act: number, rows, target, pattern, put, letters, each -/
abbrev SBh : Type := Int × List (List Int) × Option SAdr × SPat × List Int × List Int × Bool
def bh0 : SBh := (0, [], none, noPat, [], [], false)
def BhIs (S : BS) (F : Nat → Prop) (m q : Nat) (c : Int) (v : SBh) : Prop := Fi S 49 m v.1 ∧ (∃ xs cap, Ob S q (oAl xs cap) ∧ StrsIs S xs v.2.1) ∧ (∃ r, Fe S 51 m r ∧ AdO S F r v.2.2.1) ∧ (∃ r, Fe S 52 m r ∧ (c = 115 ∨ c = 103 ∨ c = 71 → ∃ p, r = some p ∧ PatIs S F p v.2.2.2.1)) ∧ (∃ r, Fe S 53 m r ∧ (c = 115 ∨ c = 122 → StrIs S r v.2.2.2.2.1)) ∧ (∃ r, Fe S 54 m r ∧ (c = 122 → StrIs S r v.2.2.2.2.2.1)) ∧ Fi S 55 m (b2i v.2.2.2.2.2.2)
def Or0 (S : BS) (F : Nat → Prop) (z : Prop) (m : Nat) (o : SOrd0) : Prop := F m ∧ Ob S m (oOwn 7) ∧ Fi S 45 m (b2i o.1) ∧ (∃ r, Fe S 46 m r ∧ AdO S F r o.2.1) ∧ (∃ r, Fe S 47 m r ∧ AdO S F r o.2.2.1) ∧ Fi S 48 m o.2.2.2.1 ∧ (∃ q, Fe S 50 m (some q) ∧ F q ∧ BhIs S F m q o.2.2.2.1 o.2.2.2.2) ∧ (z → ∀ f, 57 ≤ f → f ≤ 61 → Fi S f m 0)
def noOrd0 : SOrd0 := (false, none, none, 0, bh0)
def isGc (c : Int) : Bool := decide (c = 123 ∨ c = 103 ∨ c = 71)
/-- an order that has no orders in it -/
def Or1 (S : BS) (F : Nat → Prop) (z : Prop) (m : Nat) (o : SOrd0) : Prop := Or0 S F z m o ∧ Fe S 56 m none ∧ isGc o.2.2.2.1 = false
def OrIn (S : BS) (F : Nat → Prop) (z : Prop) (q : Nat) (os : List SOrd0) : Prop := F q ∧ ∃ xs cap, Ob S q (oAl xs cap) ∧ Els (Or1 S F z) noOrd0 xs os
def OrdIs (S : BS) (F : Nat → Prop) (z : Prop) (m : Nat) (o : SOrd) : Prop := Or0 S F z m o.1 ∧ ∃ r, Fe S 56 m r ∧ ((isGc o.1.2.2.2.1 = true ∧ ∃ q, r = some q ∧ OrIn S F z q o.2) ∨ (isGc o.1.2.2.2.1 = false ∧ r = none ∧ o.2 = []))
section OR
variable {S S' : BS} {W F F' : Nat → Prop} {c a n m p q : Nat} {z : Prop} {ac : Int} {v : SBh} {o : SOrd0} {os : List SOrd0} {od : SOrd}
theorem BhIs.fr (h : BhIs S F m q ac v) (hF : Fr S S' W c) (hm : S.1 m ≠ oNil ∧ Sep S W m) (hq : Sep S W q) (hs : NoS S W ∧ Av F W) : BhIs S' F m q ac v := by
  obtain ⟨h1, ⟨xs, cap, h2, h3⟩, ⟨r3, h4, h5⟩, ⟨r4, h6, h7⟩, ⟨r5, h8, h9⟩, ⟨r6, h10, h11⟩, h12⟩ := h
  have e := hm.1
  have sp := hm.2
  exact ⟨h1.fr hF ⟨⟨e, by decide⟩, sp⟩, ⟨xs, cap, h2.fr hF ⟨oNe rfl, hq⟩, h3.fr hF hs.1⟩, ⟨r3, h4.fr hF ⟨⟨e, by decide⟩, sp⟩, h5.fr hF hs⟩, ⟨r4, h6.fr hF ⟨⟨e, by decide⟩, sp⟩, fun y => (h7 y).imp (fun p hp => ⟨hp.1, hp.2.fr hF hs⟩)⟩, ⟨r5, h8.fr hF ⟨⟨e, by decide⟩, sp⟩, fun y => (h9 y).fr hF hs.1⟩, ⟨r6, h10.fr hF ⟨⟨e, by decide⟩, sp⟩, fun y => (h11 y).fr hF hs.1⟩, h12.fr hF ⟨⟨e, by decide⟩, sp⟩⟩
theorem BhIs.pu (h : BhIs S F m q ac v) (hP : Pu S S' a n) (hm : m ≠ n ∨ (a < 49 ∨ 55 < a)) (hs : ¬ F n) : BhIs S' F m q ac v := by
  obtain ⟨h1, ⟨xs, cap, h2, h3⟩, ⟨r3, h4, h5⟩, ⟨r4, h6, h7⟩, ⟨r5, h8, h9⟩, ⟨r6, h10, h11⟩, h12⟩ := h
  have e : ∀ f, 49 ≤ f → f ≤ 55 → f ≠ a ∨ m ≠ n := fun f h1 h2 => hm.elim Or.inr (fun z => Or.inl (by omega))
  exact ⟨h1.pu hP (e _ (by decide) (by decide)), ⟨xs, cap, h2.pu hP trivial, h3.pu hP trivial⟩, ⟨r3, h4.pu hP (e _ (by decide) (by decide)), h5.pu hP hs⟩, ⟨r4, h6.pu hP (e _ (by decide) (by decide)), fun y => (h7 y).imp (fun p hp => ⟨hp.1, hp.2.pu hP hs⟩)⟩, ⟨r5, h8.pu hP (e _ (by decide) (by decide)), fun y => (h9 y).pu hP trivial⟩, ⟨r6, h10.pu hP (e _ (by decide) (by decide)), fun y => (h11 y).pu hP trivial⟩, h12.pu hP (e _ (by decide) (by decide))⟩
theorem BhIs.mono (h : BhIs S F m q ac v) (hm : ∀ m, F m → F' m) : BhIs S F' m q ac v := by
  obtain ⟨h1, h2, ⟨r3, h4, h5⟩, ⟨r4, h6, h7⟩, h8⟩ := h
  exact ⟨h1, h2, ⟨r3, h4, h5.mono hm⟩, ⟨r4, h6, fun y => (h7 y).imp (fun p hp => ⟨hp.1, hp.2.mono hm⟩)⟩, h8⟩
theorem BhIs.old (h : BhIs S F m q ac v) : BhIs S (fun k => F k ∧ S.1 k ≠ oNil) m q ac v := by
  obtain ⟨h1, h2, ⟨r3, h4, h5⟩, ⟨r4, h6, h7⟩, h8⟩ := h
  exact ⟨h1, h2, ⟨r3, h4, h5.old⟩, ⟨r4, h6, fun y => (h7 y).imp (fun p hp => ⟨hp.1, hp.2.old⟩)⟩, h8⟩
theorem Or0.fr (h : Or0 S F z m o) (hF : Fr S S' W c) (hs : NoS S W ∧ Av F W) : Or0 S' F z m o := by
  obtain ⟨f, h1, h2, ⟨r3, h3, h4⟩, ⟨r5, h5, h6⟩, h7, ⟨q, h8, h9, h10⟩, h11⟩ := h
  have e := h1.old (oNe rfl)
  have sp : Sep S W m := hs.2.sp9 f
  exact ⟨f, h1.fr hF ⟨oNe rfl, sp⟩, h2.fr hF ⟨⟨e, by decide⟩, sp⟩, ⟨r3, h3.fr hF ⟨⟨e, by decide⟩, sp⟩, h4.fr hF hs⟩, ⟨r5, h5.fr hF ⟨⟨e, by decide⟩, sp⟩, h6.fr hF hs⟩, h7.fr hF ⟨⟨e, by decide⟩, sp⟩, ⟨q, h8.fr hF ⟨⟨e, by decide⟩, sp⟩, h9, h10.fr hF ⟨e, sp⟩ (hs.2.sp9 h9) hs⟩, fun y f1 y1 y2 => (h11 y f1 y1 y2).fr hF ⟨⟨e, by omega⟩, sp⟩⟩
theorem Or0.pu (h : Or0 S F z m o) (hP : Pu S S' a n) (hs : ¬ F n) : Or0 S' F z m o := by
  obtain ⟨f, h1, h2, ⟨r3, h3, h4⟩, ⟨r5, h5, h6⟩, h7, ⟨q, h8, h9, h10⟩, h11⟩ := h
  have e : m ≠ n := fun y => hs (y ▸ f)
  exact ⟨f, h1.pu hP trivial, h2.pu hP (Or.inr e), ⟨r3, h3.pu hP (Or.inr e), h4.pu hP hs⟩, ⟨r5, h5.pu hP (Or.inr e), h6.pu hP hs⟩, h7.pu hP (Or.inr e), ⟨q, h8.pu hP (Or.inr e), h9, h10.pu hP (Or.inl e) hs⟩, fun y f1 y1 y2 => (h11 y f1 y1 y2).pu hP (Or.inr e)⟩
theorem Or0.mono (h : Or0 S F z m o) (hm : ∀ m, F m → F' m) : Or0 S F' z m o := by
  obtain ⟨f, h1, h2, ⟨r3, h3, h4⟩, ⟨r5, h5, h6⟩, h7, ⟨q, h8, h9, h10⟩, h11⟩ := h
  exact ⟨hm _ f, h1, h2, ⟨r3, h3, h4.mono hm⟩, ⟨r5, h5, h6.mono hm⟩, h7, ⟨q, h8, hm _ h9, h10.mono hm⟩, h11⟩
theorem Or0.old (h : Or0 S F z m o) : Or0 S (fun k => F k ∧ S.1 k ≠ oNil) z m o := by
  obtain ⟨f, h1, h2, ⟨r3, h3, h4⟩, ⟨r5, h5, h6⟩, h7, ⟨q, h8, h9, h10⟩, h11⟩ := h
  obtain ⟨xs, cap, g1, g2⟩ := h10.2.1
  exact ⟨⟨f, h1.old (oNe rfl)⟩, h1, h2, ⟨r3, h3, h4.old⟩, ⟨r5, h5, h6.old⟩, h7, ⟨q, h8, ⟨h9, g1.old (oNe rfl)⟩, h10.old⟩, h11⟩
theorem Or1.fr (h : Or1 S F z m o) (hF : Fr S S' W c) (hs : NoS S W ∧ Av F W) : Or1 S' F z m o := ⟨h.1.fr hF hs, h.2.1.fr hF ⟨⟨h.1.2.1.old (oNe rfl), by decide⟩, hs.2.sp9 h.1.1⟩, h.2.2⟩
theorem Or1.pu (h : Or1 S F z m o) (hP : Pu S S' a n) (hs : ¬ F n) : Or1 S' F z m o := ⟨h.1.pu hP hs, h.2.1.pu hP (Or.inr (fun y => hs (y ▸ h.1.1))), h.2.2⟩
theorem Or1.mono (h : Or1 S F z m o) (hm : ∀ m, F m → F' m) : Or1 S F' z m o := ⟨h.1.mono hm, h.2⟩
theorem Or1.old (h : Or1 S F z m o) : Or1 S (fun k => F k ∧ S.1 k ≠ oNil) z m o := ⟨h.1.old, h.2⟩
theorem Or1.ord (h : Or1 S F z m o) : OrdIs S F z m (o, []) := ⟨h.1, none, h.2.1, Or.inr ⟨h.2.2, rfl, rfl⟩⟩
theorem OrIn.fr (h : OrIn S F z q os) (hF : Fr S S' W c) (hs : NoS S W ∧ Av F W) : OrIn S' F z q os := by
  obtain ⟨f, xs, cap, h1, h2⟩ := h
  exact ⟨f, xs, cap, h1.fr hF ⟨oNe rfl, hs.2.sp9 f⟩, h2.imp (fun k v hk => hk.fr hF hs)⟩
theorem OrIn.pu (h : OrIn S F z q os) (hP : Pu S S' a n) (hs : ¬ F n) : OrIn S' F z q os := by
  obtain ⟨f, xs, cap, h1, h2⟩ := h
  exact ⟨f, xs, cap, h1.pu hP trivial, h2.imp (fun k v hk => hk.pu hP hs)⟩
theorem OrIn.mono (h : OrIn S F z q os) (hm : ∀ m, F m → F' m) : OrIn S F' z q os := by
  obtain ⟨f, xs, cap, h1, h2⟩ := h
  exact ⟨hm _ f, xs, cap, h1, h2.imp (fun k v hk => hk.mono hm)⟩
theorem OrIn.old (h : OrIn S F z q os) : OrIn S (fun k => F k ∧ S.1 k ≠ oNil) z q os := by
  obtain ⟨f, xs, cap, h1, h2⟩ := h
  exact ⟨⟨f, h1.old (oNe rfl)⟩, xs, cap, h1, h2.imp (fun k v hk => hk.old)⟩
theorem OrdIs.fr (h : OrdIs S F z m od) (hF : Fr S S' W c) (hs : NoS S W ∧ Av F W) : OrdIs S' F z m od := by
  obtain ⟨h1, r, h2, h3⟩ := h
  refine ⟨h1.fr hF hs, r, h2.fr hF ⟨⟨h1.2.1.old (oNe rfl), by decide⟩, hs.2.sp9 h1.1⟩, h3.imp (fun y => ⟨y.1, ?_⟩) id⟩
  obtain ⟨y1, q, y2, y3⟩ := y
  exact ⟨q, y2, y3.fr hF hs⟩
theorem OrdIs.pu (h : OrdIs S F z m od) (hP : Pu S S' a n) (hs : ¬ F n) : OrdIs S' F z m od := by
  obtain ⟨h1, r, h2, h3⟩ := h
  refine ⟨h1.pu hP hs, r, h2.pu hP (Or.inr (fun y => hs (y ▸ h1.1))), h3.imp (fun y => ⟨y.1, ?_⟩) id⟩
  obtain ⟨y1, q, y2, y3⟩ := y
  exact ⟨q, y2, y3.pu hP hs⟩
theorem OrdIs.mono (h : OrdIs S F z m od) (hm : ∀ m, F m → F' m) : OrdIs S F' z m od := by
  obtain ⟨h1, r, h2, h3⟩ := h
  refine ⟨h1.mono hm, r, h2, h3.imp (fun y => ⟨y.1, ?_⟩) id⟩
  obtain ⟨y1, q, y2, y3⟩ := y
  exact ⟨q, y2, y3.mono hm⟩
theorem OrdIs.old (h : OrdIs S F z m od) : OrdIs S (fun k => F k ∧ S.1 k ≠ oNil) z m od := by
  obtain ⟨h1, r, h2, h3⟩ := h
  refine ⟨h1.old, r, h2, h3.imp (fun y => ⟨y.1, ?_⟩) id⟩
  obtain ⟨y1, q, y2, y3⟩ := y
  exact ⟨q, y2, y3.old⟩
end OR
/-- what stands behind an act, read -/
def leR (x y : Int) (l : List Int) : PR Int := if x ≤ hd l ∧ hd l ≤ y ∧ l ≠ [] then .inr (l.tail, hd l - x) else .inl l
def bhR (c : Int) (r : List Int) : PR SBh :=
  if c = 97 ∨ c = 105 ∨ c = 99 then match pRows r.length r with
    | .inl f => .inl f
    | .inr (l1, rs) => .inr (l1, 0, rs, none, noPat, [], [], false)
  else if c = 118 ∨ c = 62 ∨ c = 60 ∨ c = 111 ∨ c = 79 then match pNum r with
    | .inl f => .inl f
    | .inr (l1, v) => .inr (l1, v, [], none, noPat, [], [], false)
  else if c = 109 ∨ c = 116 then match pAdr r with
    | .inl f => .inl f
    | .inr (l1, a) => .inr (l1, 0, [], some a, noPat, [], [], false)
  else if c = 107 then match leR 97 101 r with
    | .inl f => .inl f
    | .inr (l1, v) => .inr (l1, v, [], none, noPat, [], [], false)
  else if c = 114 ∨ c = 119 then match leR 48 51 r with
    | .inl f => .inl f
    | .inr (l1, v) => .inr (l1, v, [], none, noPat, [], [], false)
  else if c = 58 then match leR 65 90 r with
    | .inl f => .inl f
    | .inr (l1, v) => .inr (l1, v, [], none, noPat, [], [], false)
  else if c = 98 ∨ c = 84 then (if isLab (hd r) = true then .inr (r.tail, hd r - 65, [], none, noPat, [], [], false) else .inr (r, -1, [], none, noPat, [], [], false))
  else if c = 115 then match pRepl r with
    | .inl f => .inl f
    | .inr (l1, pt, pu, ea, nr) => .inr (l1, nr, [], none, pt, pu, [], ea)
  else if c = 122 then match pTurn r with
    | .inl f => .inl f
    | .inr (l1, le, pu) => .inr (l1, 0, [], none, noPat, pu, le, false)
  else .inr (r, bh0)
