-- C
set_option maxRecDepth 100000
/-! LINEORDERS' STATE: what changes -/
/-- what may change: the container i, and what isn't of the state -/
def LoX (K : Nat → Nat) (S : BS) (W : Nat → Prop) (i : Nat) : Prop := ∀ m, S.1 m ≠ oNil → W m → m = K i ∨ (KoM K m ∧ S.1 m ≠ oOwn 6 ∧ (S.1 m).1 ≠ 1)
def cpU (cp : Nat → Nat) (i v : Nat) (j : Nat) : Nat := if j = i then v else cp j
theorem cpU_eq {cp : Nat → Nat} {i v : Nat} : cpU cp i v i = v := if_pos rfl
theorem cpU_ne {cp : Nat → Nat} {i v j : Nat} (h : j ≠ i) : cpU cp i v j = cp j := if_neg h
section UP
variable {S S' S0 S1 S2 : BS} {K : Nat → Nat} {la : Int → Nat} {ids ids' : List Int} {p p' : Nat} {G G' : BG} {A : St} {B B' : Nat} {W V V' F : Nat → Prop} {c c' n m q i a cap cap' mc it : Nat} {o : Obj} {t : List SLine} {x : Int} {rows : List (List Int)} {r : Option Nat} {mk : Nat → Option Int} {sl : SLine} {z : List Int} {v : Int}
theorem LoX.k : LoX K S (fun k => k = K i) i := fun _ _ z => Or.inl z
theorem LoX.w (h : LoW K S W) : LoX K S W i := fun m hm z => Or.inr (h m hm z)
theorem LoX.two (h1 : LoX K S (fun k => k = m) i) (h2 : LoX K S (fun k => k = n) i) : LoX K S (fun k => k = m ∨ k = n) i := fun k hk z => z.elim (h1 k hk) (h2 k hk)
theorem LB.updX (h : LB S K la ids p G B) (hF : Fr S S' W c) (hs : LoX K S W i) (hi : i ∈ kCh) : KcIs S' K ∧ (i ≠ 3 → ∃ mc, Ob S' (K 3) (oLl (lsOf la ids) mc)) ∧ LinI S' la G.2.2.2.2.1 ∧ (Fi S' 5 (K 1) p ∧ Fi S' 4 (K 1) G.2.2.2.2.1 ∧ Fi S' 14 (K 1) (b2i G.2.2.2.2.2)) ∧ (i ≠ 6 → MksI S' (K 6) la G.2.2.2.2.1 G.2.2.2.1) ∧
    ∃ cp : Nat → Nat, (∀ j ∈ lIx, ListI S (K j) (lsA G j) (cp j)) ∧ (∀ j ∈ lIx, j ≠ i → ListI S' (K j) (lsA G j) (cp j)) ∧ ((∃ z, Ob S (K 15) (oSb z (cp 15))) ∧ cp 15 ≤ 60000) ∧ (i ≠ 15 → ∃ z, Ob S' (K 15) (oSb z (cp 15))) ∧ S'.2.2.2 ≤ B + c + cSum cp := by
  have ht := h.tag hi
  have hwk := h.wk hi
  have hobx := h.obx
  have hinj := fun (j : Nat) (hj : j ∈ kIx) (hn : j ≠ i) => h.inj hj (show i ∈ kIx by revert hi; unfold kCh kIx; simp; omega) hn
  have h11 : (S.1 (K i)).1 ≠ 11 := by
    obtain ⟨h1, ⟨mc, h2⟩, h3, h4, ⟨M, h9, h10⟩, cp, h11, ⟨⟨z, h12⟩, h13⟩, h14⟩ := h
    have hl : i = 3 ∨ i = 6 ∨ i = 15 ∨ i ∈ lIx := by revert hi; unfold kCh lIx; simp; omega
    rcases hl with rfl | rfl | rfl | hl
    · rw [show S.1 (K 3) = _ from h2]; exact fun z => absurd (show (4 : Nat) = 11 from z) (by decide)
    · rw [show S.1 (K 6) = _ from h9]; exact fun z => absurd (show (7 : Nat) = 11 from z) (by decide)
    · rw [show S.1 (K 15) = _ from h12]; exact fun z => absurd (show (2 : Nat) = 11 from z) (by decide)
    · obtain ⟨xs, g, _⟩ := h11 i hl
      rw [show S.1 (K i) = _ from g]; exact fun z => absurd (show (3 : Nat) = 11 from z) (by decide)
  have sep : ∀ j ∈ kIx, j ≠ i → S.1 (K j) ≠ oNil → Sep S W (K j) := fun j hj hn hnil w => (hs _ hnil w).elim (fun e => hinj j hj hn e) (fun e => e.1 j hj rfl)
  have nos : NoS S W := fun k w e => by
    have hn : S.1 k ≠ oNil := fun z => by rw [z] at e; exact absurd (show (0 : Nat) = 1 from e) (by decide)
    rcases hs k hn w with z | z
    · subst z; exact ht.2 e
    · exact z.2.2 e
  have lin : ∀ k, Ob S k (oOwn 6) → Sep S W k := fun k hk w => by
    rcases hs k (hk.old (oNe rfl)) w with z | z
    · subst z; rw [show S.1 (K i) = oOwn 6 from hk] at h11; exact h11 rfl
    · exact z.2.1 hk
  have ic : ∀ j, j = i → j = 3 ∨ j = 6 ∨ j = 15 ∨ j ∈ lIx := by rintro j rfl; revert hi; unfold kCh lIx; simp; omega
  have i1 : (1 : Nat) ≠ i := fun z => by have := ic 1 z; revert this; decide
  have i9 : (9 : Nat) ≠ i := fun z => by have := ic 9 z; revert this; decide
  obtain ⟨h1, ⟨mc, h2⟩, ⟨h3, h4, h5⟩, ⟨h6, h7, h8⟩, ⟨M, h9, h10⟩, cp, h11, ⟨⟨z, h12⟩, h13⟩, h14, h15⟩ := h
  have e := hobx.old (oNe rfl)
  have s1 : Sep S W (K 1) := sep 1 (by decide) i1 e
  refine ⟨?_, fun hn => ⟨mc, h2.fr hF ⟨oNe rfl, sep 3 (by decide) (Ne.symm hn) (h2.old (oNe rfl))⟩⟩, ⟨fun x g1 g2 => ?_, h3.2⟩, ⟨h6.fr hF ⟨⟨e, by decide⟩, s1⟩, h7.fr hF ⟨⟨e, by decide⟩, s1⟩, h8.fr hF ⟨⟨e, by decide⟩, s1⟩⟩, fun hn => ⟨M, h9.fr hF ⟨oNe rfl, sep 6 (by decide) (Ne.symm hn) (h9.old (oNe rfl))⟩, h10⟩, cp, h11, fun j hj hn => (h11 j hj).fr hF ⟨sep j (lIx_k hj) hn (h11 j hj).old, nos⟩, ⟨⟨z, h12⟩, h13⟩, fun hn => ⟨z, h12.fr hF ⟨oNe rfl, sep 15 (by decide) (Ne.symm hn) (h12.old (oNe rfl))⟩⟩, ?_⟩
  · obtain ⟨k1, k2, k3, k5, cap, k4⟩ := h1
    exact ⟨k1, k2.fr hF ⟨oNe rfl, s1⟩, fun f hf => (k3 f hf).fr hF ⟨⟨e, by simp at hf; omega⟩, s1⟩, fun i hi => hF.1 _ (k5 i hi), cap, k4.fr hF ⟨oNe rfl, sep 9 (by decide) i9 (k4.old (oNe rfl))⟩⟩
  · obtain ⟨a, b⟩ := h3.1 x g1 g2
    exact ⟨a.fr hF ⟨oNe rfl, lin _ a⟩, b.fr hF ⟨⟨a.old (oNe rfl), by decide⟩, lin _ a⟩⟩
  · have := hF.2.2
    omega
theorem LB.setText (h : LB S K la ids p G B) (hF : Fr S S' W c) (hs : LoX K S W 3) (ht : Ob S' (K 3) (oLl (lsOf la ids') mc)) (hi : ∀ x ∈ ids', 0 ≤ x ∧ x < G.2.2.2.2.1) (hB : B + c ≤ 20000000) : LB S' K la ids' p G (B + c) := by
  obtain ⟨a1, a2, a3, a4, a5, cp, b1, b2, b3, b4, b5⟩ := h.updX hF hs (by decide)
  exact ⟨a1, ⟨mc, ht⟩, ⟨a3, h.nR, hi⟩, a4, a5 (by decide), cp, fun j hj => b2 j hj (by rintro rfl; revert hj; decide), ⟨b4 (by decide), b3.2⟩, b5, hB⟩
def setM (G : BG) (mk : Nat → Option Int) : BG := (G.1, G.2.1, G.2.2.1, mk, G.2.2.2.2)
theorem LB.setMk (h : LB S K la ids p G B) (hF : Fr S S' W c) (hs : LoX K S W 6) (ht : MksI S' (K 6) la G.2.2.2.2.1 mk) (hB : B + c ≤ 20000000) : LB S' K la ids p (setM G mk) (B + c) := by
  obtain ⟨a1, a2, a3, a4, a5, cp, b1, b2, b3, b4, b5⟩ := h.updX hF hs (by decide)
  exact ⟨a1, a2 (by decide), ⟨a3, h.nR, h.2.2.1.2.2⟩, a4, ht, cp, fun j hj => b2 j hj (by rintro rfl; revert hj; decide), ⟨b4 (by decide), b3.2⟩, b5, hB⟩
theorem LB.marks (h : LB S K la ids p G B) : MksI S (K 6) la G.2.2.2.2.1 G.2.2.2.1 := h.2.2.2.2.1
theorem LB.made (h : LB S K la ids p G B) : ∃ z cap, Ob S (K 15) (oSb z cap) ∧ cap ≤ 60000 := by
  obtain ⟨_, _, _, _, _, cp, _, ⟨⟨z, h1⟩, h2⟩, _⟩ := h
  exact ⟨z, cp 15, h1, h2⟩
/-- the builder grows -/
theorem LB.setMade {z2 : List Int} (h : LB S K la ids p G B) (h0 : Ob S (K 15) (oSb z cap)) (hF : Fr S S' W (c + 3 * (cap' - cap))) (hs : LoX K S W 15) (ht : Ob S' (K 15) (oSb z2 cap')) (hc : cap ≤ cap') (hc2 : cap' ≤ 60000) (hB : B + c ≤ 20000000) : LB S' K la ids p G (B + c) := by
  obtain ⟨a1, a2, a3, a4, a5, cp, b1, b2, ⟨⟨z', b3⟩, b33⟩, b4, b5⟩ := h.updX hF hs (by decide)
  have e : cp 15 = cap := by
    have e1 : oSb z' (cp 15) = oSb z cap := b3.symm.trans h0
    exact congrArg (fun o : Obj => o.2.2.2.1) e1
  refine ⟨a1, a2 (by decide), ⟨a3, h.nR, h.2.2.1.2.2⟩, a4, a5 (by decide), cpU cp 15 cap', fun j hj => ?_, ⟨⟨z2, by rw [cpU_eq]; exact ht⟩, by rw [cpU_eq]; exact hc2⟩, ?_, hB⟩
  · have hj15 : j ≠ 15 := by rintro rfl; revert hj; decide
    rw [cpU_ne hj15]
    exact b2 j hj hj15
  · unfold cSum at b5 ⊢
    unfold cpU
    simp only [Nat.reduceEqDiff, reduceIte]
    omega
def setLs (G : BG) (i : Nat) (rows : List (List Int)) : BG := if i = 7 then (rows, G.2) else if i = 8 then (G.1, rows, G.2.2) else (G.1, G.2.1, fup G.2.2.1 (i - 20) rows, G.2.2.2)
theorem lsA_set {j : Nat} (hi : i ∈ lIx) (hj : j ∈ lIx) : lsA (setLs G i rows) j = if j = i then rows else lsA G j := by
  have hi : i = 7 ∨ i = 8 ∨ i = 20 ∨ i = 21 ∨ i = 22 ∨ i = 23 := by revert hi; unfold lIx; simp
  have hj : j = 7 ∨ j = 8 ∨ j = 20 ∨ j = 21 ∨ j = 22 ∨ j = 23 := by revert hj; unfold lIx; simp
  rcases hi with rfl | rfl | rfl | rfl | rfl | rfl <;> rcases hj with rfl | rfl | rfl | rfl | rfl | rfl <;> rfl
theorem setLs_r : (setLs G i rows).2.2.2 = G.2.2.2 := by
  unfold setLs
  split
  · rfl
  · split <;> rfl
theorem LB.list (h : LB S K la ids p G B) (hi : i ∈ lIx) : ∃ cap, ListI S (K i) (lsA G i) cap := by
  obtain ⟨_, _, _, _, _, cp, h1, _⟩ := h
  exact ⟨cp i, h1 i hi⟩
theorem LB.setList {xs : List (Option Nat)} (h : LB S K la ids p G B) (hi : i ∈ lIx) (h0 : Ob S (K i) (oAl xs cap)) (hF : Fr S S' W (c + 6 * (cap' - cap))) (hs : LoX K S W i) (ht : ListI S' (K i) rows cap') (hc : cap ≤ cap') (hB : B + c ≤ 20000000) : LB S' K la ids p (setLs G i rows) (B + c) := by
  have hi' : i = 7 ∨ i = 8 ∨ i = 20 ∨ i = 21 ∨ i = 22 ∨ i = 23 := by revert hi; unfold lIx; simp
  have hik : i ∈ kCh := by unfold kCh; simp; omega
  obtain ⟨a1, a2, a3, a4, a5, cp, b1, b2, b3, b4, b5⟩ := h.updX hF hs hik
  have e : cp i = cap := by
    obtain ⟨xs', b6, _⟩ := b1 i hi
    have e1 : oAl xs' (cp i) = oAl xs cap := b6.symm.trans h0
    exact congrArg (fun o : Obj => o.2.2.2.1) e1
  have er := setLs_r (G := G) (i := i) (rows := rows)
  unfold LB
  rw [er]
  refine ⟨a1, a2 (by omega), ⟨a3, h.nR, h.2.2.1.2.2⟩, a4, a5 (by omega), cpU cp i cap', fun j hj => ?_, ⟨?_, ?_⟩, ?_, hB⟩
  · rw [lsA_set hi hj]
    by_cases z : j = i
    · subst z
      rw [if_pos rfl, cpU_eq]; exact ht
    · rw [if_neg z, cpU_ne z]; exact b2 j hj z
  · rw [cpU_ne (by omega)]; exact b4 (by omega)
  · rw [cpU_ne (by omega)]; exact b3.2
  · unfold cSum at b5 ⊢
    unfold cpU
    rcases hi' with rfl | rfl | rfl | rfl | rfl | rfl <;> simp only [Nat.reduceEqDiff, reduceIte] <;> omega
/-- puts into fields of the object -/
theorem LB.puX (h : LB S K la ids p G B) (hP : Pu S S' a (K 1)) (ha : a ∉ [0, 2, 3, 6, 7, 8, 9, 10, 15]) : KcIs S' K ∧ (∃ mc, Ob S' (K 3) (oLl (lsOf la ids) mc)) ∧ (LinI S' la G.2.2.2.2.1 ∧ (0 ≤ G.2.2.2.2.1 ∧ G.2.2.2.2.1 < 2000000) ∧ ∀ x ∈ ids, 0 ≤ x ∧ x < G.2.2.2.2.1) ∧ MksI S' (K 6) la G.2.2.2.2.1 G.2.2.2.1 ∧ ∃ cp : Nat → Nat, (∀ i ∈ lIx, ListI S' (K i) (lsA G i) (cp i)) ∧ ((∃ z, Ob S' (K 15) (oSb z (cp 15))) ∧ cp 15 ≤ 60000) ∧ S'.2.2.2 ≤ B + cSum cp ∧ B ≤ 20000000 := by
  obtain ⟨h1, ⟨mc, h2⟩, ⟨h3, h4, h5⟩, ⟨h6, h7, h8⟩, ⟨M, h9, h10⟩, cp, h11, ⟨⟨z, h12⟩, h13⟩, h14, h15⟩ := h
  obtain ⟨k1, k2, k3, k5, cap, k4⟩ := h1
  refine ⟨⟨k1, k2.pu hP trivial, fun f hf => (k3 f hf).pu hP (Or.inl (fun z => ha (z ▸ hf))), fun i hi => hP.fr.1 _ (k5 i hi), cap, k4.pu hP trivial⟩, ⟨mc, h2.pu hP trivial⟩, ⟨⟨fun x g1 g2 => ?_, h3.2⟩, h4, h5⟩, ⟨M, h9.pu hP trivial, h10⟩, cp, fun i hi => ?_, ⟨⟨z, h12.pu hP trivial⟩, h13⟩, by rw [hP.2.1]; exact h14, h15⟩
  · obtain ⟨u1, u2⟩ := h3.1 x g1 g2
    refine ⟨u1.pu hP trivial, u2.pu hP (Or.inr (u1.ne k2 (ownNe rfl)))⟩
  · obtain ⟨xs, u1, u2, u3⟩ := h11 i hi
    exact ⟨xs, u1.pu hP trivial, u2.pu hP trivial, u3⟩
theorem LB.puP (h : LB S K la ids p G B) (hP : Pu S S' 5 (K 1)) (hv : Fi S' 5 (K 1) v) (hp : v = (p' : Int)) : LB S' K la ids p' G B := by
  obtain ⟨a1, a2, a3, a4, a5⟩ := h.puX hP (by decide)
  exact ⟨a1, a2, a3, ⟨by rw [← hp]; exact hv, h.f4.pu hP (Or.inl (by decide)), h.f14.pu hP (Or.inl (by decide))⟩, a4, a5⟩
def setRG (G : BG) (b : Bool) : BG := (G.1, G.2.1, G.2.2.1, G.2.2.2.1, G.2.2.2.2.1, b)
theorem LB.puR {b : Bool} (h : LB S K la ids p G B) (hP : Pu S S' 14 (K 1)) (hv : Fi S' 14 (K 1) v) (hb : v = b2i b) : LB S' K la ids p (setRG G b) B := by
  obtain ⟨a1, a2, a3, a4, a5⟩ := h.puX hP (by decide)
  exact ⟨a1, a2, a3, ⟨h.f5.pu hP (Or.inl (by decide)), h.f4.pu hP (Or.inl (by decide)), by rw [hb] at hv; exact hv⟩, a4, a5⟩
/-- other fields -/
theorem LB.puO (h : LB S K la ids p G B) (hP : Pu S S' a (K 1)) (ha : a ∉ [0, 2, 3, 4, 5, 6, 7, 8, 9, 10, 14, 15]) : LB S' K la ids p G B := by
  obtain ⟨a1, a2, a3, a4, a5⟩ := h.puX hP (fun z => ha (by simp at z ⊢; omega))
  exact ⟨a1, a2, a3, ⟨h.f5.pu hP (Or.inl (fun z => ha (by rw [← z]; decide))), h.f4.pu hP (Or.inl (fun z => ha (by rw [← z]; decide))), h.f14.pu hP (Or.inl (fun z => ha (by rw [← z]; decide)))⟩, a4, a5⟩
/-- a row is put into a line, or anything into what isn't of the state -/
theorem LB.puL (h : LB S K la ids p G B) (hP : Pu S S' a m) (hm : m ≠ K 1) (h43 : a ≠ 43 ∨ S.1 m ≠ oOwn 6) : LB S' K la ids p G B := by
  obtain ⟨h1, ⟨mc, h2⟩, ⟨h3, h4, h5⟩, ⟨h6, h7, h8⟩, ⟨M, h9, h10⟩, cp, h11, ⟨⟨z, h12⟩, h13⟩, h14, h15⟩ := h
  obtain ⟨k1, k2, k3, k5, cap, k4⟩ := h1
  refine ⟨⟨k1, k2.pu hP trivial, fun f hf => (k3 f hf).pu hP (Or.inr (Ne.symm hm)), fun i hi => hP.fr.1 _ (k5 i hi), cap, k4.pu hP trivial⟩, ⟨mc, h2.pu hP trivial⟩, ⟨⟨fun x g1 g2 => ?_, h3.2⟩, h4, h5⟩, ⟨h6.pu hP (Or.inr (Ne.symm hm)), h7.pu hP (Or.inr (Ne.symm hm)), h8.pu hP (Or.inr (Ne.symm hm))⟩, ⟨M, h9.pu hP trivial, h10⟩, cp, fun i hi => ?_, ⟨⟨z, h12.pu hP trivial⟩, h13⟩, by rw [hP.2.1]; exact h14, h15⟩
  · obtain ⟨u1, u2⟩ := h3.1 x g1 g2
    refine ⟨u1.pu hP trivial, u2.pu hP ?_⟩
    rcases h43 with z | z
    · exact Or.inl (Ne.symm z)
    · exact Or.inr (fun w => z (by rw [← w]; exact u1))
  · obtain ⟨xs, u1, u2, u3⟩ := h11 i hi
    exact ⟨xs, u1.pu hP trivial, u2.pu hP trivial, u3⟩
theorem RowI.pu1 {nn : Int} (h : RowI S la nn sl) (hP : Pu S S' a (K 1)) (hx : Ob S (K 1) (oOwn 1)) : RowI S' la nn sl := by
  obtain ⟨h1, h2, r, h3, h4⟩ := h
  exact ⟨h1, h2.pu hP trivial, r, h3.pu hP (Or.inr (h2.ne hx (ownNe rfl))), h4.pu hP trivial⟩
theorem RowsI.pu1 {nn : Int} (h : RowsI S la nn t) (hP : Pu S S' a (K 1)) (hx : Ob S (K 1) (oOwn 1)) : RowsI S' la nn t := fun q hq => (h q hq).pu1 hP hx
theorem RowI.xf {nn : Int} (h : RowI S la nn sl) (hX : XF K V S S') (hV : ¬ V (la sl.1)) (hx : Ob S (K 1) (oOwn 1)) (hw : ∀ i ∈ kCh, S.1 (K i) ≠ oOwn 6) : RowI S' la nn sl := by
  obtain ⟨h1, h2, r, h3, h4⟩ := h
  have a := hX.lin h2 (fun ⟨i, hi, e⟩ => hw i hi (by rw [← e]; exact h2))
  have hn : la sl.1 ≠ K 1 := h2.ne hx (ownNe rfl)
  exact ⟨h1, a.1, r, (a.2 44 (by decide) (by decide) (fun z => hn z.1) (fun z => hV z.2)).2.trans h3, hX.strB h4⟩
theorem LB.kw (h : LB S K la ids p G B) : ∀ i ∈ kCh, S.1 (K i) ≠ oOwn 6 := by
  intro i hi
  obtain ⟨h1, ⟨mc, h2⟩, h3, h4, ⟨M, h9, h10⟩, cp, h11, ⟨⟨z, h12⟩, h13⟩, h14⟩ := h
  have hl : i = 3 ∨ i = 6 ∨ i = 15 ∨ i ∈ lIx := by revert hi; unfold kCh lIx; simp; omega
  rcases hl with rfl | rfl | rfl | hl
  · rw [show S.1 (K 3) = _ from h2]; exact oNe rfl
  · rw [show S.1 (K 6) = _ from h9]; exact oNe rfl
  · rw [show S.1 (K 15) = _ from h12]; exact oNe rfl
  · obtain ⟨xs, g, _⟩ := h11 i hl
    rw [show S.1 (K i) = _ from g]; exact oNe rfl
theorem RowsI.xf {nn : Int} (h : RowsI S la nn t) (hX : XF K V S S') (hV : ∀ q ∈ t, ¬ V (la q.1)) (hL : LB S K la ids p G B) : RowsI S' la nn t := fun q hq => (h q hq).xf hX (hV q hq) hL.obx hL.kw
/-- a new line -/
theorem LB.newLine {k : Nat} (h : LB S K la ids p G B) (hm : S.1 m = oNil) (hF : Fr0 S S1 c) (hm1 : Ob S1 m (oOwn 6)) (h43 : Fi S1 43 m G.2.2.2.2.1) (hP : Pu S1 S' 4 (K 1)) (h4 : Fi S' 4 (K 1) v) (hv : v = G.2.2.2.2.1 + 1) (hn : G.2.2.2.2.1 + 1 < 2000000) (hB : B + c ≤ 20000000) : LB S' K (fun x => if x = G.2.2.2.2.1 then m else la x) ids p (G.1, G.2.1, G.2.2.1, G.2.2.2.1, G.2.2.2.2.1 + 1, G.2.2.2.2.2) (B + c) := by
  have h0 := h
  have hm1k : m ≠ K 1 := fun z => by rw [z] at hm; exact h0.obx.old (oNe rfl) hm
  have h := h.fr hF LoW.no hB
  have hids := h0.2.2.1.2.2
  obtain ⟨a1, ⟨mc, a2⟩, ⟨a3, a31, a32⟩, ⟨M, a4, a41⟩, cp, b1, b2, b3⟩ := h.puX hP (by decide)
  have hnR := h0.nR
  have old : ∀ x, 0 ≤ x → x < G.2.2.2.2.1 → la x ≠ m := fun x x1 x2 z => by
    have := (h0.2.2.1.1.1 x x1 x2).1
    rw [z] at this
    exact this.old (oNe rfl) hm
  have el : lsOf (fun x => if x = G.2.2.2.2.1 then m else la x) ids = lsOf la ids := by
    unfold lsOf
    refine List.map_congr_left (fun x hx => ?_)
    have := hids x hx
    show some (if x = G.2.2.2.2.1 then m else la x) = some (la x)
    rw [if_neg (by omega)]
  refine ⟨a1, ⟨mc, by rw [el]; exact a2⟩, ⟨⟨fun x x1 x2 => ?_, fun x y x1 x2 y1 y2 e => ?_⟩, ⟨by show (0 : Int) ≤ G.2.2.2.2.1 + 1; omega, hn⟩, fun x hx => ?_⟩, ⟨h.f5.pu hP (Or.inl (by decide)), by rw [hv] at h4; exact h4, h.f14.pu hP (Or.inl (by decide))⟩, ⟨M, a4, fun j hj => ?_⟩, cp, b1, b2, b3⟩
  · have x2 : x < G.2.2.2.2.1 + 1 := x2
    by_cases e : x = G.2.2.2.2.1
    · show Ob S' (if x = G.2.2.2.2.1 then m else la x) _ ∧ Fi S' 43 (if x = G.2.2.2.2.1 then m else la x) x
      rw [if_pos e, e]
      exact ⟨hm1.pu hP trivial, h43.pu hP (Or.inl (by decide))⟩
    · show Ob S' (if x = G.2.2.2.2.1 then m else la x) _ ∧ Fi S' 43 (if x = G.2.2.2.2.1 then m else la x) x
      rw [if_neg e]
      exact a3.1 x x1 (by omega)
  · have x2 : x < G.2.2.2.2.1 + 1 := x2
    have y2 : y < G.2.2.2.2.1 + 1 := y2
    have e : (if x = G.2.2.2.2.1 then m else la x) = (if y = G.2.2.2.2.1 then m else la y) := e
    by_cases e1 : x = G.2.2.2.2.1
    · by_cases e2 : y = G.2.2.2.2.1
      · omega
      · rw [if_pos e1, if_neg e2] at e
        exact absurd e.symm (old y y1 (by omega))
    · by_cases e2 : y = G.2.2.2.2.1
      · rw [if_neg e1, if_pos e2] at e
        exact absurd e (old x x1 (by omega))
      · rw [if_neg e1, if_neg e2] at e
        exact a3.2 x y x1 (by omega) y1 (by omega) e
  · have := hids x hx
    show 0 ≤ x ∧ x < G.2.2.2.2.1 + 1
    omega
  · obtain ⟨c1, c2⟩ := a41 j hj
    refine ⟨?_, fun x hx => ?_⟩
    · rw [c1]
      show (G.2.2.2.1 j).map la = (G.2.2.2.1 j).map (fun x => if x = G.2.2.2.2.1 then m else la x)
      cases e : G.2.2.2.1 j with
      | none => rfl
      | some x =>
        have := c2 x e
        show some (la x) = some (if x = G.2.2.2.2.1 then m else la x)
        rw [if_neg (by omega)]
    · have := c2 x hx
      show 0 ≤ x ∧ x < G.2.2.2.2.1 + 1
      omega
end UP
