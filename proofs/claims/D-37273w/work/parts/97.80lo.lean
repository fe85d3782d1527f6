-- C
set_option maxRecDepth 100000
/-! LINEORDERS' STATE as objects. K 1: the object; K f: what its field f holds; K 20 to K 23: the files; la: the lines by their ids; B: what was spent but for what growing arrays are worth -/
def kIx : List Nat := [0, 1, 2, 3, 6, 7, 8, 9, 10, 15, 20, 21, 22, 23]
def kCh : List Nat := [3, 6, 7, 8, 15, 20, 21, 22, 23]
def KInj (K : Nat → Nat) : Prop := ∀ i j, i ∈ kIx → j ∈ kIx → K i = K j → i = j
def KoM (K : Nat → Nat) (m : Nat) : Prop := ∀ i, i ∈ kIx → m ≠ K i
def KcIs (S : BS) (K : Nat → Nat) : Prop := KInj K ∧ Ob S (K 1) (oOwn 1) ∧ (∀ f, f ∈ [0, 2, 3, 6, 7, 8, 9, 10, 15] → Fe S f (K 1) (some (K f))) ∧ (∀ i ∈ [0, 2, 10], S.1 (K i) ≠ oNil) ∧ ∃ cap, Ob S (K 9) (oAl [some (K 20), some (K 21), some (K 22), some (K 23)] cap)
def LinI (S : BS) (la : Int → Nat) (n : Int) : Prop := (∀ x, 0 ≤ x → x < n → Ob S (la x) (oOwn 6) ∧ Fi S 43 (la x) x) ∧ ∀ x y, 0 ≤ x → x < n → 0 ≤ y → y < n → la x = la y → x = y
def RowI (S : BS) (la : Int → Nat) (n : Int) (q : SLine) : Prop := (0 ≤ q.1 ∧ q.1 < n) ∧ Ob S (la q.1) (oOwn 6) ∧ ∃ r, Fe S 44 (la q.1) r ∧ StrB S r q.2
def RowsI (S : BS) (la : Int → Nat) (n : Int) (t : List SLine) : Prop := ∀ q ∈ t, RowI S la n q
def ListI (S : BS) (k : Nat) (rows : List (List Int)) (cap : Nat) : Prop := ∃ xs, Ob S k (oAl xs cap) ∧ StrsIs S xs rows ∧ cap ≤ 300
def MksI (S : BS) (k : Nat) (la : Int → Nat) (n : Int) (m : Nat → Option Int) : Prop := ∃ M, Ob S k (oTm M) ∧ ∀ j : Nat, j < 5 → M j = (m j).map la ∧ ∀ x, m j = some x → 0 ≤ x ∧ x < n
def lsA (G : BG) (i : Nat) : List (List Int) := if i = 7 then G.1 else if i = 8 then G.2.1 else G.2.2.1 (i - 20)
def lIx : List Nat := [7, 8, 20, 21, 22, 23]
def cSum (cp : Nat → Nat) : Nat := 6 * (cp 7 + cp 8 + cp 20 + cp 21 + cp 22 + cp 23) + 3 * cp 15
def lsOf (la : Int → Nat) (ids : List Int) : List (Option Nat) := ids.map (fun x => some (la x))
def LB (S : BS) (K : Nat → Nat) (la : Int → Nat) (ids : List Int) (p : Nat) (G : BG) (B : Nat) : Prop :=
  KcIs S K ∧ (∃ mc, Ob S (K 3) (oLl (lsOf la ids) mc)) ∧ (LinI S la G.2.2.2.2.1 ∧ (0 ≤ G.2.2.2.2.1 ∧ G.2.2.2.2.1 < 2000000) ∧ ∀ x ∈ ids, 0 ≤ x ∧ x < G.2.2.2.2.1) ∧ (Fi S 5 (K 1) p ∧ Fi S 4 (K 1) G.2.2.2.2.1 ∧ Fi S 14 (K 1) (b2i G.2.2.2.2.2)) ∧ MksI S (K 6) la G.2.2.2.2.1 G.2.2.2.1 ∧
  ∃ cp : Nat → Nat, (∀ i ∈ lIx, ListI S (K i) (lsA G i) (cp i)) ∧ ((∃ z, Ob S (K 15) (oSb z (cp 15))) ∧ cp 15 ≤ 60000) ∧ S.2.2.2 ≤ B + cSum cp ∧ B ≤ 20000000
def LO (S : BS) (K : Nat → Nat) (la : Int → Nat) (A : St) (B : Nat) : Prop := LB S K la (idsOfL A.1) A.2.1 A.2.2 B ∧ RowsI S la A.2.2.2.2.2.2.1 A.1
/-- an object outside of the state -/
def LoW (K : Nat → Nat) (S : BS) (W : Nat → Prop) : Prop := ∀ m, S.1 m ≠ oNil → W m → KoM K m ∧ S.1 m ≠ oOwn 6 ∧ (S.1 m).1 ≠ 1
/-- a container that may change -/
def WKn (K : Nat → Nat) (S : BS) (m : Nat) : Prop := (∃ i, i ∈ kCh ∧ m = K i) ∧ m ≠ K 1 ∧ (S.1 m).1 ≠ 1
/-- what runs leave alone; V: lines whose row may change -/
def XF (K : Nat → Nat) (V : Nat → Prop) (S S' : BS) : Prop := (∀ m, S.1 m ≠ oNil → S'.1 m ≠ oNil) ∧
  (∀ m, S.1 m ≠ oNil → ¬ (∃ i, i ∈ kCh ∧ m = K i) → (S'.1 m = S.1 m ∧ ∀ F, F < 91 → ¬ (71 ≤ F ∧ F ≤ 73) → ¬ (m = K 1 ∧ F ∈ [4, 5, 14, 16, 17]) → ¬ (F = 44 ∧ V m) → S'.2.1 F m = S.2.1 F m ∧ S'.2.2.1 F m = S.2.2.1 F m) ∨ ∃ us us', S.1 m = oIa us ∧ S'.1 m = oIa us' ∧ us.length = 3 ∧ us'.length = 3) ∧
  ∀ m s, Ob S m (oStr s) → Ob S' m (oStr s)
section LO
variable {S S' S0 S1 S2 : BS} {K : Nat → Nat} {la : Int → Nat} {ids : List Int} {p : Nat} {G : BG} {A : St} {B B' : Nat} {W V V' : Nat → Prop} {c c' n m q i a cap : Nat} {o : Obj} {t : List SLine} {x : Int} {rows : List (List Int)} {r : Option Nat} {mk : Nat → Option Int} {sl : SLine}
theorem LoW.no : LoW K S (fun _ => False) := fun _ _ z => z.elim
theorem LoW.one (hk : KoM K m) (h : Ob S m o) (h6 : o ≠ oOwn 6) (h1 : (o.1 == 1) = false) : LoW K S (fun k => k = m) := fun k _ z => by
  subst z
  rw [show S.1 k = o from h]
  exact ⟨hk, h6, fun z => by rw [z] at h1; cases h1⟩
theorem LoW.two (h1 : LoW K S (fun k => k = m)) (h2 : LoW K S (fun k => k = n)) : LoW K S (fun k => k = m ∨ k = n) := fun k hk z => z.elim (h1 k hk) (h2 k hk)
theorem LoW.three (h1 : LoW K S (fun k => k = m)) (h2 : LoW K S (fun k => k = n)) (h3 : LoW K S (fun k => k = q)) : LoW K S (fun k => k = m ∨ k = n ∨ k = q) := fun k hk z => z.elim (h1 k hk) (fun z => z.elim (h2 k hk) (h3 k hk))
theorem LoW.sep (h : LoW K S W) (hi : i ∈ kIx) (hn : S.1 (K i) ≠ oNil) : Sep S W (K i) := fun z => (h _ hn z).1 i hi rfl
theorem LoW.nos (h : LoW K S W) : NoS S W := fun m z w => (h m (fun e => by rw [e] at w; exact absurd (show (0 : Nat) = 1 from w) (by decide)) z).2.2 w
theorem LoW.lin (h : LoW K S W) (hn : Ob S m (oOwn 6)) : Sep S W m := fun z => (h m (hn.old (oNe rfl)) z).2.1 hn
theorem KcIs.fr (h : KcIs S K) (hF : Fr S S' W c) (hs : LoW K S W) : KcIs S' K := by
  obtain ⟨h1, h2, h3, h5, cap, h4⟩ := h
  have e := h2.old (oNe rfl)
  exact ⟨h1, h2.fr hF ⟨oNe rfl, hs.sep (by decide) e⟩, fun f hf => (h3 f hf).fr hF ⟨⟨e, by simp at hf; omega⟩, hs.sep (by decide) e⟩, fun i hi => hF.1 _ (h5 i hi), cap, h4.fr hF ⟨oNe rfl, hs.sep (by decide) (h4.old (oNe rfl))⟩⟩
theorem LinI.fr {nn : Int} (h : LinI S la nn) (hF : Fr S S' W c) (hs : LoW K S W) : LinI S' la nn := ⟨fun x h1 h2 => by
  obtain ⟨a, b⟩ := h.1 x h1 h2
  exact ⟨a.fr hF ⟨oNe rfl, hs.lin a⟩, b.fr hF ⟨⟨a.old (oNe rfl), by decide⟩, hs.lin a⟩⟩, h.2⟩
theorem RowI.fr {nn : Int} (h : RowI S la nn sl) (hF : Fr S S' W c) (hs : LoW K S W) : RowI S' la nn sl := by
  obtain ⟨h1, h2, r, h3, h4⟩ := h
  exact ⟨h1, h2.fr hF ⟨oNe rfl, hs.lin h2⟩, r, h3.fr hF ⟨⟨h2.old (oNe rfl), by decide⟩, hs.lin h2⟩, h4.fr hF hs.nos⟩
theorem RowsI.fr {nn : Int} (h : RowsI S la nn t) (hF : Fr S S' W c) (hs : LoW K S W) : RowsI S' la nn t := fun q hq => (h q hq).fr hF hs
theorem ListI.fr (h : ListI S m rows cap) (hF : Fr S S' W c) (hs : Sep S W m ∧ NoS S W) : ListI S' m rows cap := by
  obtain ⟨xs, h1, h2, h3⟩ := h
  exact ⟨xs, h1.fr hF ⟨oNe rfl, hs.1⟩, h2.fr hF hs.2, h3⟩
theorem ListI.old (h : ListI S m rows cap) : S.1 m ≠ oNil := by obtain ⟨xs, h1, _⟩ := h; exact h1.old (oNe rfl)
theorem lIx_k (h : i ∈ lIx) : i ∈ kIx := by revert h; unfold lIx kIx; simp; omega
theorem LB.fr (h : LB S K la ids p G B) (hF : Fr S S' W c) (hs : LoW K S W) (hB : B + c ≤ 20000000) : LB S' K la ids p G (B + c) := by
  obtain ⟨h1, ⟨mc, h2⟩, ⟨h3, h4, h5⟩, ⟨h6, h7, h8⟩, ⟨M, h9, h10⟩, cp, h11, ⟨⟨z, h12⟩, h13⟩, h14, h15⟩ := h
  have e := h1.2.1.old (oNe rfl)
  have s1 : Sep S W (K 1) := hs.sep (by decide) e
  refine ⟨h1.fr hF hs, ⟨mc, h2.fr hF ⟨oNe rfl, hs.sep (by decide) (h2.old (oNe rfl))⟩⟩, ⟨h3.fr hF hs, h4, h5⟩, ⟨h6.fr hF ⟨⟨e, by decide⟩, s1⟩, h7.fr hF ⟨⟨e, by decide⟩, s1⟩, h8.fr hF ⟨⟨e, by decide⟩, s1⟩⟩, ⟨M, h9.fr hF ⟨oNe rfl, hs.sep (by decide) (h9.old (oNe rfl))⟩, h10⟩, cp, fun i hi => (h11 i hi).fr hF ⟨hs.sep (lIx_k hi) (h11 i hi).old, hs.nos⟩, ⟨⟨z, h12.fr hF ⟨oNe rfl, hs.sep (by decide) (h12.old (oNe rfl))⟩⟩, h13⟩, ?_, hB⟩
  have := hF.2.2
  omega
theorem LB.le (h : LB S K la ids p G B) (hB : B ≤ B') (hB2 : B' ≤ 20000000) : LB S K la ids p G B' := by
  obtain ⟨h1, h2, h3, h4, h5, cp, h6, h7, h8, h9⟩ := h
  exact ⟨h1, h2, h3, h4, h5, cp, h6, h7, by omega, hB2⟩
theorem LO.fr (h : LO S K la A B) (hF : Fr S S' W c) (hs : LoW K S W) (hB : B + c ≤ 20000000) : LO S' K la A (B + c) := ⟨h.1.fr hF hs hB, h.2.fr hF hs⟩
theorem LO.le (h : LO S K la A B) (hB : B ≤ B') (hB2 : B' ≤ 20000000) : LO S K la A B' := ⟨h.1.le hB hB2, h.2⟩
theorem LB.obx (h : LB S K la ids p G B) : Ob S (K 1) (oOwn 1) := h.1.2.1
theorem LB.fe (h : LB S K la ids p G B) {f : Nat} (hf : f ∈ [0, 2, 3, 6, 7, 8, 9, 10, 15]) : Fe S f (K 1) (some (K f)) := h.1.2.2.1 f hf
theorem LB.e3 (h : LB S K la ids p G B) : Fe S 3 (K 1) (some (K 3)) := h.fe (by decide)
theorem LB.e6 (h : LB S K la ids p G B) : Fe S 6 (K 1) (some (K 6)) := h.fe (by decide)
theorem LB.e7 (h : LB S K la ids p G B) : Fe S 7 (K 1) (some (K 7)) := h.fe (by decide)
theorem LB.e8 (h : LB S K la ids p G B) : Fe S 8 (K 1) (some (K 8)) := h.fe (by decide)
theorem LB.e9 (h : LB S K la ids p G B) : Fe S 9 (K 1) (some (K 9)) := h.fe (by decide)
theorem LB.e10 (h : LB S K la ids p G B) : Fe S 10 (K 1) (some (K 10)) := h.fe (by decide)
theorem LB.e15 (h : LB S K la ids p G B) : Fe S 15 (K 1) (some (K 15)) := h.fe (by decide)
theorem LB.f5 (h : LB S K la ids p G B) : Fi S 5 (K 1) p := h.2.2.2.1.1
theorem LB.f4 (h : LB S K la ids p G B) : Fi S 4 (K 1) G.2.2.2.2.1 := h.2.2.2.1.2.1
theorem LB.f14 (h : LB S K la ids p G B) : Fi S 14 (K 1) (b2i G.2.2.2.2.2) := h.2.2.2.1.2.2
theorem LB.nR (h : LB S K la ids p G B) : 0 ≤ G.2.2.2.2.1 ∧ G.2.2.2.2.1 < 2000000 := h.2.2.1.2.1
theorem LB.text (h : LB S K la ids p G B) : ∃ mc, Ob S (K 3) (oLl (lsOf la ids) mc) := h.2.1
theorem LB.inj (h : LB S K la ids p G B) {j : Nat} (hi : i ∈ kIx) (hj : j ∈ kIx) (hn : i ≠ j) : K i ≠ K j := fun z => hn (h.1.1 i j hi hj z)
theorem LB.tag (h : LB S K la ids p G B) (hi : i ∈ kCh) : S.1 (K i) ≠ oNil ∧ (S.1 (K i)).1 ≠ 1 := by
  obtain ⟨h1, ⟨mc, h2⟩, h3, h4, ⟨M, h9, h10⟩, cp, h11, ⟨⟨z, h12⟩, h13⟩, h14⟩ := h
  have key : ∀ o : Obj, S.1 (K i) = o → (o.1 == 0) = false → (o.1 == 1) = false → S.1 (K i) ≠ oNil ∧ (S.1 (K i)).1 ≠ 1 := fun o e a b => by
    rw [e]; exact ⟨oNe a, fun z => by rw [z] at b; cases b⟩
  have hl : i = 3 ∨ i = 6 ∨ i = 15 ∨ i ∈ lIx := by revert hi; unfold kCh lIx; simp; omega
  rcases hl with rfl | rfl | rfl | hl
  · exact key _ h2 rfl rfl
  · exact key _ h9 rfl rfl
  · exact key _ h12 rfl rfl
  · obtain ⟨xs, g, _⟩ := h11 i hl
    exact key _ g rfl rfl
theorem LB.wk (h : LB S K la ids p G B) (hi : i ∈ kCh) : WKn K S (K i) := ⟨⟨i, hi, rfl⟩, h.inj (by revert hi; unfold kCh kIx; simp; omega) (by decide) (by rintro rfl; revert hi; decide), (h.tag hi).2⟩
theorem LB.ko (h : LB S K la ids p G B) (hm : S.1 m = oNil) : KoM K m := fun i hi z => by
  rw [z] at hm
  by_cases h1 : i = 1
  · subst h1; exact h.obx.old (oNe rfl) hm
  by_cases h9 : i = 9
  · subst h9; obtain ⟨_, _, _, _, cap, h4⟩ := h.1; exact h4.old (oNe rfl) hm
  by_cases hc : i ∈ kCh
  · exact (h.tag hc).1 hm
  · exact h.1.2.2.2.1 i (by revert hi hc; unfold kIx kCh; simp; omega) hm
/-! frames -/
theorem XF.rf : XF K V S S := ⟨fun _ h => h, fun m hm _ => Or.inl ⟨rfl, fun _ _ _ _ _ => ⟨rfl, rfl⟩⟩, fun _ _ h => h⟩
theorem XF.mono (h : XF K V S S') (hV : ∀ m, V m → V' m) : XF K V' S S' := ⟨h.1, fun m hm hk => (h.2.1 m hm hk).imp (fun z => ⟨z.1, fun F h1 h2 h3 h4 => z.2 F h1 h2 h3 (fun w => h4 ⟨w.1, hV m w.2⟩)⟩) id, h.2.2⟩
theorem XF.tr (h : XF K V S S1) (h2 : XF K V S1 S2) : XF K V S S2 := by
  refine ⟨fun m hm => h2.1 m (h.1 m hm), fun m hm hk => ?_, fun m s z => h2.2.2 m s (h.2.2 m s z)⟩
  rcases h.2.1 m hm hk with ⟨a1, a2⟩ | ⟨us, us', a1, a2, a3, a4⟩
  · rcases h2.2.1 m (h.1 m hm) hk with ⟨b1, b2⟩ | ⟨vs, vs', b1, b2, b3, b4⟩
    · exact Or.inl ⟨b1.trans a1, fun F h1 h2 h3 h4 => ⟨(b2 F h1 h2 h3 h4).1.trans (a2 F h1 h2 h3 h4).1, (b2 F h1 h2 h3 h4).2.trans (a2 F h1 h2 h3 h4).2⟩⟩
    · exact Or.inr ⟨vs, vs', a1.symm.trans b1, b2, b3, b4⟩
  · rcases h2.2.1 m (h.1 m hm) hk with ⟨b1, b2⟩ | ⟨vs, vs', b1, b2, b3, b4⟩
    · exact Or.inr ⟨us, us', a1, b1.trans a2, a3, a4⟩
    · exact Or.inr ⟨us, vs', a1, b2, a3, b4⟩
theorem XF.fr (h : XF K V S0 S) (hF : Fr S S' W c) (hW : ∀ m, S0.1 m ≠ oNil → W m → WKn K S m) : XF K V S0 S' := by
  refine ⟨fun m hm => hF.1 m (h.1 m hm), fun m hm hk => ?_, fun m s z => ?_⟩
  · have hnw : ¬ W m := fun z => hk (hW m hm z).1
    have a := hF.2.1 m (h.1 m hm) hnw
    rcases h.2.1 m hm hk with ⟨a1, a2⟩ | ⟨us, us', a1, a2, a3, a4⟩
    · exact Or.inl ⟨a.1.trans a1, fun F h1 h2 h3 h4 => ⟨(a.2 F h1).1.trans (a2 F h1 h2 h3 h4).1, (a.2 F h1).2.trans (a2 F h1 h2 h3 h4).2⟩⟩
    · exact Or.inr ⟨us, us', a1, a.1.trans a2, a3, a4⟩
  · have e := h.2.2 m s z
    exact e.fr hF ⟨oNe rfl, fun w => (hW m (z.old (oNe rfl)) w).2.2 (by rw [show S.1 m = oStr s from e]; rfl)⟩
theorem XF.f0 (h : XF K V S0 S) (hF : Fr0 S S' c) : XF K V S0 S' := h.fr hF (fun _ _ z => z.elim)
theorem XF.f1 (h : XF K V S0 S) (hF : Fr1 S S' m c) (hm : S0.1 m ≠ oNil → WKn K S m) : XF K V S0 S' := h.fr hF (fun k hk z => by subst z; exact hm hk)
theorem XF.f2 (h : XF K V S0 S) (hF : Fr S S' (fun k => k = m ∨ k = n) c) (hm : S0.1 m ≠ oNil → WKn K S m) (hn : S0.1 n ≠ oNil → WKn K S n) : XF K V S0 S' := h.fr hF (fun k hk z => by
  rcases z with z | z
  · subst z; exact hm hk
  · subst z; exact hn hk)
theorem XF.f3 (h : XF K V S0 S) (hF : Fr S S' (fun k => k = m ∨ k = n ∨ k = q) c) (hm : S0.1 m ≠ oNil → WKn K S m) (hn : S0.1 n ≠ oNil → WKn K S n) (hq : S0.1 q ≠ oNil → WKn K S q) : XF K V S0 S' := h.fr hF (fun k hk z => by
  rcases z with z | z | z
  · subst z; exact hm hk
  · subst z; exact hn hk
  · subst z; exact hq hk)
theorem XF.nw (h : XF K V S0 S) (hN : Nw S S' q o c) : XF K V S0 S' := h.f0 hN.fr
theorem XF.nil (h : XF K V S0 S) (hm : S.1 m = oNil) : S0.1 m = oNil := Classical.byContradiction (fun z => h.1 m z hm)
theorem XF.pu1 (h : XF K V S0 S) (hP : Pu S S' a (K 1)) (ha : a ∈ [4, 5, 14, 16, 17]) : XF K V S0 S' := by
  refine h.tr ⟨fun m hm => by rw [hP.1]; exact hm, fun m hm _ => Or.inl ⟨congrFun hP.1 m, fun F h1 h2 h3 h4 => hP.2.2 F m ?_⟩, fun m s z => z.pu hP trivial⟩
  by_cases e : m = K 1
  · exact Or.inl (fun z => h3 ⟨e, by rw [z]; exact ha⟩)
  · exact Or.inr e
theorem XF.puV (h : XF K V S0 S) (hP : Pu S S' 44 m) (hV : V m) : XF K V S0 S' := by
  refine h.tr ⟨fun k hm => by rw [hP.1]; exact hm, fun k hm _ => Or.inl ⟨congrFun hP.1 k, fun F h1 h2 h3 h4 => hP.2.2 F k ?_⟩, fun k s z => z.pu hP trivial⟩
  by_cases e : k = m
  · exact Or.inl (fun z => h4 ⟨z, by rw [e]; exact hV⟩)
  · exact Or.inr e
/-- a put into a new object -/
theorem XF.puN (h : XF K V S0 S) (hP : Pu S S' a m) (hm : S0.1 m = oNil) : XF K V S0 S' := h.fr hP.fr (fun k hk z => by subst z; exact absurd hm hk)
theorem XF.scr (h : XF K V S0 S) (hc : Scr S S') : XF K V S0 S' := by
  refine h.tr ⟨hc.1, fun m hm _ => (hc.2.1 m hm).imp (fun z => ⟨z.1, fun F h1 h2 _ _ => z.2 F h1 h2⟩) id, fun m s z => ?_⟩
  have z1 : S.1 m = oStr s := z
  rcases hc.2.1 m (by rw [z1]; exact oNe rfl) with ⟨a, _⟩ | ⟨us, us', a, _⟩
  · exact a.trans z1
  · rw [z1] at a; exact absurd a (oNe rfl)
theorem XF.str (h : XF K V S S') {s : List Int} (hs : StrIs S r s) : StrIs S' r s := by
  obtain ⟨y, h1, h2⟩ := hs
  exact ⟨y, h1, h.2.2 y s h2⟩
theorem XF.strB (h : XF K V S S') {s : List Int} (hs : StrB S r s) : StrB S' r s := ⟨h.str hs.1, hs.2⟩
theorem XF.strs (h : XF K V S S') {xs : List (Option Nat)} (hs : StrsIs S xs rows) : StrsIs S' xs rows := ⟨hs.1, fun j hj => h.strB (hs.2 j hj)⟩
/-- an object that isn't an int array, outside of the state -/
theorem XF.ob (h : XF K V S S') (hm : Ob S m o) (hk : KoM K m) (ho : o ≠ oNil) (h9 : (o.1 == 9) = false) : Ob S' m o ∧ ∀ F, F < 91 → ¬ (71 ≤ F ∧ F ≤ 73) → ¬ (F = 44 ∧ V m) → S'.2.1 F m = S.2.1 F m ∧ S'.2.2.1 F m = S.2.2.1 F m := by
  have hm1 : S.1 m = o := hm
  rcases h.2.1 m (hm.old ho) (fun ⟨i, hi, z⟩ => hk i (by revert hi; unfold kCh kIx; simp; omega) z) with ⟨a, b⟩ | ⟨us, us', a, _⟩
  · exact ⟨a.trans hm, fun F h1 h2 h3 => b F h1 h2 (fun z => hk 1 (by decide) z.1) h3⟩
  · rw [hm1] at a; rw [a] at h9; cases h9
theorem XF.lin (h : XF K V S S') (hm : Ob S m (oOwn 6)) (hk : ¬ (∃ i, i ∈ kCh ∧ m = K i)) : Ob S' m (oOwn 6) ∧ ∀ F, F < 91 → ¬ (71 ≤ F ∧ F ≤ 73) → ¬ (m = K 1 ∧ F ∈ [4, 5, 14, 16, 17]) → ¬ (F = 44 ∧ V m) → S'.2.1 F m = S.2.1 F m ∧ S'.2.2.1 F m = S.2.2.1 F m := by
  have hm1 : S.1 m = oOwn 6 := hm
  rcases h.2.1 m (hm.old (oNe rfl)) hk with ⟨a, b⟩ | ⟨us, us', a, _⟩
  · exact ⟨a.trans hm, b⟩
  · rw [hm1] at a; exact absurd a (oNe rfl)
end LO
