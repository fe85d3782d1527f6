-- C
set_option maxRecDepth 100000
/-! LINEORDERS: pairs -/
section PP
variable {a b : List (List Int)} {x : List Int} {f : List (List Int) → Nat} {i j n k : Nat} {ps : List (Nat × Nat)}
def lcA (a b : List (List Int)) (i j : Nat) : Nat := lcs (a.drop i) (b.drop j)
theorem lcs_cons {y : List Int} : lcs (x :: a) (y :: b) = if x = y then lcs a b + 1 else max (lcs a (y :: b)) (lcs (x :: a) b) := rfl
theorem lcs_le : ∀ (a b : List (List Int)), lcs a b ≤ a.length := by
  intro a
  induction a with
  | nil => intro b; exact Nat.le_refl _
  | cons x a ih =>
    intro b
    induction b with
    | nil => exact Nat.zero_le _
    | cons y b ihb =>
      rw [lcs_cons, List.length_cons] at *
      have h1 := ih b
      have h2 := ih (y :: b)
      split
      · omega
      · omega
theorem lcA_le : lcA a b i j ≤ a.length := by
  have := lcs_le (a.drop i) (b.drop j)
  rw [List.length_drop] at this
  unfold lcA
  omega
theorem lcA_e1 (h : a.length ≤ i) : lcA a b i j = 0 := by unfold lcA; rw [List.drop_of_length_le h]; rfl
theorem lcA_e2 (h : b.length ≤ j) : lcA a b i j = 0 := by
  unfold lcA
  rw [List.drop_of_length_le h]
  cases a.drop i <;> rfl
theorem getD_at (h : i < a.length) : a.getD i [] = a[i] := by rw [List.getD_eq_getElem?_getD, List.getElem?_eq_getElem h]; rfl
theorem lcA_s (hi : i < a.length) (hj : j < b.length) : lcA a b i j = if a.getD i [] = b.getD j [] then lcA a b (i + 1) (j + 1) + 1 else max (lcA a b (i + 1) j) (lcA a b i (j + 1)) := by
  rw [getD_at hi, getD_at hj]
  unfold lcA
  rw [List.drop_eq_getElem_cons hi, List.drop_eq_getElem_cons hj, lcs_cons]
theorem prF_s : prF a b (n + 1) i j = if i < a.length ∧ j < b.length then (if a.getD i [] = b.getD j [] then (i, j) :: prF a b n (i + 1) (j + 1) else if lcA a b i (j + 1) ≤ lcA a b (i + 1) j then prF a b n (i + 1) j else prF a b n i (j + 1)) else [] := rfl
theorem prF_ge : ∀ (n i j : Nat), ∀ q ∈ prF a b n i j, i ≤ q.1 ∧ q.1 < a.length ∧ q.2 < b.length := by
  intro n
  induction n with
  | zero => intro i j q hq; cases hq
  | succ n ih =>
    intro i j q hq
    rw [prF_s] at hq
    by_cases h : i < a.length ∧ j < b.length
    · rw [if_pos h] at hq
      split at hq
      · rcases List.mem_cons.mp hq with z | z
        · rw [z]; exact ⟨Nat.le_refl _, h⟩
        · have := ih _ _ q z; omega
      · split at hq
        · have := ih _ _ q hq; omega
        · have := ih _ _ q hq; omega
    · rw [if_neg h] at hq; cases hq
theorem prOf_nil : prOf [] k = 0 := rfl
theorem prOf_cons : prOf ((i, j) :: ps) k = if i = k then j + 1 else prOf ps k := by
  unfold prOf
  rw [List.find?_cons]
  by_cases h : i = k
  · subst h
    simp
  · have : ((i, j).1 == k) = false := beq_eq_false_iff_ne.mpr h
    rw [this, if_neg h]
theorem prOf_lt (h : ∀ q ∈ ps, k < q.1) : prOf ps k = 0 := by
  unfold prOf
  have : ps.find? (fun q => q.1 == k) = none := by
    rw [List.find?_eq_none]
    intro q hq z
    have := h q hq
    have := beq_iff_eq.mp z
    omega
  rw [this]
theorem prOf_R : ∀ (ps : List (Nat × Nat)), (∀ q ∈ ps, q.2 < n) → prOf ps k ≤ n := by
  intro ps
  induction ps with
  | nil => intro _; exact Nat.zero_le _
  | cons q ps ih =>
    intro h
    obtain ⟨i, j⟩ := q
    rw [prOf_cons]
    split
    · exact h _ List.mem_cons_self
    · exact ih (fun q hq => h q (List.mem_cons_of_mem _ hq))
/-- the pairs that are still to be found -/
theorem prF_of : i < a.length → j < b.length → (a.getD i [] = b.getD j [] → prOf (prF a b (n + 1) i j) i = j + 1 ∧ ∀ k, i + 1 ≤ k → prOf (prF a b (n + 1) i j) k = prOf (prF a b n (i + 1) (j + 1)) k) ∧ (a.getD i [] ≠ b.getD j [] → lcA a b i (j + 1) ≤ lcA a b (i + 1) j → prOf (prF a b (n + 1) i j) i = 0 ∧ prF a b (n + 1) i j = prF a b n (i + 1) j) ∧ (a.getD i [] ≠ b.getD j [] → ¬ lcA a b i (j + 1) ≤ lcA a b (i + 1) j → prF a b (n + 1) i j = prF a b n i (j + 1)) := by
  intro hi hj
  have e := prF_s (a := a) (b := b) (n := n) (i := i) (j := j)
  rw [if_pos ⟨hi, hj⟩] at e
  refine ⟨fun h => ?_, fun h h2 => ?_, fun h h2 => ?_⟩
  · rw [if_pos h] at e
    rw [e]
    refine ⟨by rw [prOf_cons, if_pos rfl], fun k hk => by rw [prOf_cons, if_neg (by omega)]⟩
  · rw [if_neg h, if_pos h2] at e
    refine ⟨?_, e⟩
    rw [e]
    exact prOf_lt (fun q hq => by have := prF_ge _ _ _ q hq; omega)
  · rw [if_neg h, if_neg h2] at e
    exact e
/-- how many pairs -/
theorem prF_cnt : ∀ (n i j : Nat), ((List.range' i (a.length - i)).map (fun k => if prOf (prF a b n i j) k = 0 then 0 else 1)).sum = (prF a b n i j).length := by
  have zero : ∀ (m i : Nat), ((List.range' i m).map (fun _ => 0)).sum = 0 := by
    intro m
    induction m with
    | zero => intro i; rfl
    | succ m ih => intro i; rw [List.range'_succ, List.map_cons, List.sum_cons, ih]
  intro n
  induction n with
  | zero => intro i j; exact zero _ _
  | succ n ih =>
    intro i j
    by_cases h : i < a.length ∧ j < b.length
    · have e : a.length - i = (a.length - (i + 1)) + 1 := by omega
      obtain ⟨g1, g2, g3⟩ := prF_of (n := n) h.1 h.2
      by_cases h1 : a.getD i [] = b.getD j []
      · obtain ⟨k1, k2⟩ := g1 h1
        rw [e, List.range'_succ, List.map_cons, List.sum_cons, k1, if_neg (by omega)]
        have : (List.range' (i + 1) (a.length - (i + 1))).map (fun k => if prOf (prF a b (n + 1) i j) k = 0 then 0 else 1) = (List.range' (i + 1) (a.length - (i + 1))).map (fun k => if prOf (prF a b n (i + 1) (j + 1)) k = 0 then 0 else 1) := by
          refine List.map_congr_left (fun k hk => ?_)
          have := (List.mem_range'_1.mp hk).1
          rw [k2 k this]
        rw [this, ih]
        have e2 := prF_s (a := a) (b := b) (n := n) (i := i) (j := j)
        rw [if_pos h, if_pos h1] at e2
        rw [e2, List.length_cons]
        omega
      · by_cases h2 : lcA a b i (j + 1) ≤ lcA a b (i + 1) j
        · obtain ⟨k1, k2⟩ := g2 h1 h2
          rw [k2] at k1
          rw [k2, e, List.range'_succ, List.map_cons, List.sum_cons, k1, if_pos rfl, ih]
          omega
        · rw [g3 h1 h2]
          exact ih i (j + 1)
    · have e := prF_s (a := a) (b := b) (n := n) (i := i) (j := j)
      rw [if_neg h] at e
      rw [e]
      exact zero _ _
end PP
section PA
variable {d n m q i e y cap c k j pl B B' p F0 cl re l W R : Nat} {S S' S0 S1 S2 S3 : BS} {K : Nat → Nat} {la la' : Int → Nat} {A A1 : St} {F V : Nat → Prop} {v nn x1 x z : Int} {r : Option Nat} {t : List SLine} {xs ws : List (Option Nat)} {ds : List SDeed} {tp s : List Int} {sc : Nat → Option (List Int)} {rows a b : List (List Int)} {us vs : List Int} {w : PW} {st : List GV} {ls : GL} {M : GMeth} {Q : GO → BS → Prop} {x2 x3 b1 : Int} {a1 : Nat}
theorem BW.maxV (hC : M.2.2.1[i]? = some (70, a1, b1)) (hs : (st.map gcat).sum ≤ 8) (hx : inR x1 ∧ inR x2) (hv : (if x1 < x2 then x2 else x1) = x3) (kk : BW d M (i + 1) ls (.inl x3 :: st) S Q) : BW d M i ls (.inl x2 :: .inl x1 :: st) S Q := fun g hR => GW.max hC hs hx hv (kk g hR)
theorem cel_e (W i j : Nat) : (W : Int) * (i : Int) + (j : Int) = ((W * i + j : Nat) : Int) := by rw [Int.natCast_add, Int.natCast_mul]
theorem cel_e1 (W i j : Nat) : (W : Int) * (i : Int) + (j : Int) + 1 = ((W * i + (j + 1) : Nat) : Int) := by
  rw [← cel_e, Int.add_assoc]
  rfl
theorem cel_inj {i j i' j' W : Nat} (hj : j < W) (hj' : j' < W) (h : W * i + j = W * i' + j') : i = i' ∧ j = j' := by
  have h1 : (W * i + j) / W = i := by rw [Nat.mul_add_div (by omega), Nat.div_eq_of_lt hj, Nat.add_zero]
  have h2 : (W * i' + j') / W = i' := by rw [Nat.mul_add_div (by omega), Nat.div_eq_of_lt hj', Nat.add_zero]
  have e : i = i' := by rw [← h1, ← h2, h]
  subst e
  exact ⟨rfl, by omega⟩
theorem cel_lt {i j W M : Nat} (hj : j < W) (hi : i < M) : W * i + j < M * W := by
  have h1 : W * (i + 1) ≤ W * M := Nat.mul_le_mul_left W hi
  rw [Nat.mul_add, Nat.mul_one] at h1
  rw [Nat.mul_comm M W]
  omega
/-- what is known of the table: rows from I on, of the row ahead of it from J on -/
def LgI (a b : List (List Int)) (us : List Int) (I J : Nat) : Prop := us.length = (a.length + 1) * (b.length + 1) ∧ ∀ i j, i ≤ a.length → j ≤ b.length → (I ≤ i ∨ (i + 1 = I ∧ J ≤ j) ∨ j = b.length) → us.getD ((b.length + 1) * i + j) 0 = (lcA a b i j : Int)
theorem LgI.start : LgI a b (List.replicate ((a.length + 1) * (b.length + 1)) 0) a.length b.length := by
  refine ⟨List.length_replicate .., fun i j hi hj h => ?_⟩
  have e : (List.replicate ((a.length + 1) * (b.length + 1)) (0 : Int)).getD ((b.length + 1) * i + j) 0 = 0 := by
    rw [List.getD_eq_getElem?_getD, List.getElem?_replicate]
    split <;> rfl
  rw [e]
  rcases h with h | h | h
  · rw [lcA_e1 h]; rfl
  · rw [lcA_e2 (by omega)]; rfl
  · rw [lcA_e2 (by omega)]; rfl
theorem LgI.row (h : LgI a b us (i + 1) 0) : LgI a b us i b.length := ⟨h.1, fun i' j' hi hj hc => h.2 i' j' hi hj (by omega)⟩
theorem LgI.set (h : LgI a b us (i + 1) (j + 1)) (hi : i < a.length) (hj : j < b.length) : LgI a b (us.set ((b.length + 1) * i + j) (lcA a b i j)) (i + 1) j := by
  refine ⟨by rw [List.length_set]; exact h.1, fun i' j' hi' hj' hc => ?_⟩
  have hlt := cel_lt (i := i) (j := j) (W := b.length + 1) (M := a.length + 1) (by omega) (by omega)
  by_cases z : i' = i ∧ j' = j
  · rw [z.1, z.2, List.getD_eq_getElem?_getD, List.getElem?_set_self (by rw [h.1]; exact hlt)]
    rfl
  · have hne : (b.length + 1) * i + j ≠ (b.length + 1) * i' + j' := fun e => z (by
      have := cel_inj (W := b.length + 1) (show j < b.length + 1 by omega) (show j' < b.length + 1 by omega) e
      omega)
    rw [List.getD_eq_getElem?_getD, List.getElem?_set_ne hne, ← List.getD_eq_getElem?_getD]
    exact h.2 i' j' hi' hj' (by omega)
theorem L_pairs (hL : LO S K la A B) (hw : WF A) (hl : Ob S l (oAl xs cap)) (hs : StrsIs S xs rows) (h40 : rows.length ≤ 40) (hB : B + 100000 ≤ 20000000) : BMr (d + 6) gk_X1_pairs [aR (K 1), aR l] S (fun r S' => ∃ q us, r = vR (some q) ∧ Ob S' q (oIa us) ∧ us.length = A.1.length ∧ (∀ k, k < A.1.length → us.getD k 0 = (prOf (prs (rowsOfL A.1) rows) k : Int)) ∧ Fr0 S S' 2000) := by
  have ht40 := hw.2.1
  have hxb := hL.1.obx
  have e3 := hL.1.e3
  obtain ⟨mc, hT⟩ := hL.1.text
  have hxl := hs.1
  obtain ⟨a, ha⟩ : ∃ a, a = rowsOfL A.1 := ⟨_, rfl⟩
  have hal : a.length = A.1.length := by rw [ha]; unfold rowsOfL; rw [List.length_map]
  have hM : (a.length + 1) * (rows.length + 1) ≤ 41 * 41 := Nat.mul_le_mul (by omega) (by omega)
  rw [← ha]
  refine BM.of rfl rfl rfl ?_
  (repeat (first | (refine BW.pl rfl rfl ?_) | (refine CW.geti rfl rfl (by assumption) rfl rfl (by assumption) (fun _ => ?_)) | (refine CW.getr rfl rfl (by assumption) rfl rfl (by assumption) ?_)))
  refine CW.e1 rfl rfl (by first | exact Or.inl rfl | exact Or.inr (tagO (by assumption) (by rfl) (by rfl)) | exact Or.inr (tagO (AdrIs.ox (by assumption)) (by rfl) (by rfl)) | exact Or.inr (tagO (PatIs.ox (by assumption)) (by rfl) (by rfl)) | exact Or.inr (tagO (Or0.ox (by assumption)) (by rfl) (by rfl))) (by first | exact Or.inl (by decide) | exact Or.inr ⟨_, rfl, by assumption⟩) rfl (B_llSize hT) ?_
  rw [lsOf_len, ids_len, ← hal]
  (repeat (refine BW.pl rfl rfl ?_))
  refine CW.e1 rfl rfl (by first | exact Or.inl rfl | exact Or.inr (tagO (by assumption) (by rfl) (by rfl)) | exact Or.inr (tagO (AdrIs.ox (by assumption)) (by rfl) (by rfl)) | exact Or.inr (tagO (PatIs.ox (by assumption)) (by rfl) (by rfl)) | exact Or.inr (tagO (Or0.ox (by assumption)) (by rfl) (by rfl))) (by first | exact Or.inl (by decide) | exact Or.inr ⟨_, rfl, by assumption⟩) rfl (B_alSize hl) ?_
  rw [hxl]
  (repeat (refine BW.pl rfl rfl ?_))
  have eW : (rows.length : Int) + 1 = ((rows.length + 1 : Nat) : Int) := by omega
  have eM : (((a.length : Nat) : Int) + 1) * ((rows.length : Int) + 1) = (((a.length + 1) * (rows.length + 1) : Nat) : Int) := by rw [Int.natCast_mul]; rfl
  refine CW.arrI rfl rfl (by rw [eM]; exact ⟨by omega, by omega⟩) (fun lq S1 hN1 => ?_)
  rw [eM, show (((a.length + 1) * (rows.length + 1) : Nat) : Int).toNat = (a.length + 1) * (rows.length + 1) by omega] at hN1
  have hlq1 := hN1.ob
  have hlqz := hN1.nil
  have hL1 := hL.fr hN1.fr LoW.no (by omega)
  have hl1 := hl.fr hN1.fr ⟨oNe rfl, Sep.no⟩
  have hs1 := hs.fr hN1.fr NoS.no
  have hx1 := hL1.1.obx
  -- from 26 on, with the text's own rows
  have at25 : ∀ (S2 : BS) (oq : Nat) (ys : List (Option Nat)), Fr0 S S2 (1800) → S.1 oq = oNil → oq ≠ lq → Ob S2 oq (oRa 105 ys) → StrsIs S2 ys a → Ob S2 lq (oIa (List.replicate ((a.length + 1) * (rows.length + 1)) 0)) → BW (d + 5) gm_X1_pairs 25 [some (aR (K 1)), some (aR l), some (aI a.length), some (aI ((rows.length : Int) + 1)), some (aR lq), none, none, none, none] [aR oq] S2 (fun r S' => ∃ v, r = .inl v ∧ ∃ q us, v = vR (some q) ∧ Ob S' q (oIa us) ∧ us.length = a.length ∧ (∀ k, k < a.length → us.getD k 0 = (prOf (prs a rows) k : Int)) ∧ Fr0 S S' 2000) := by
    intro S2 oq ys hF2 hoz hne hoq hys hlq2
    have hl2 := hl.fr hF2 ⟨oNe rfl, Sep.no⟩
    have hs2 := hs.fr hF2 NoS.no
    have hyl := hys.1
    rw [eW]
    -- the rows compared
    have cmp : ∀ {S3 : BS} {i j : Nat}, StrsIs S3 ys a → StrsIs S3 xs rows → i < a.length → j < rows.length → ∃ y1 y2, ys.getD i none = some y1 ∧ xs.getD j none = some y2 ∧ Ob S3 y1 (oStr (a.getD i [])) ∧ Ob S3 y2 (oStr (rows.getD j [])) ∧ (1000 ≤ y1 ∨ 1000 ≤ y2 ∨ y1 = y2) := fun g1 g2 hi hj => by
      obtain ⟨⟨y1, a1, a2⟩, a3⟩ := g1.2 _ hi
      obtain ⟨⟨y2, b1, b2⟩, b3⟩ := g2.2 _ hj
      exact ⟨y1, y2, a1, b1, a2, b2, by have := a3 y1 a1; have := b3 y2 b1; omega⟩
    -- the second walk
    have walk : ∀ (S3 : BS) (us : List Int), LgI a rows us 0 rows.length → Ob S3 lq (oIa us) → Fr S2 S3 (fun m => m = lq) 0 → ∀ (v6 v7 v8 : Option GV), gn1 v6 = true → gn1 v7 = true → gn1 v8 = true → BW (d + 5) gm_X1_pairs 93 [some (aR (K 1)), some (aR l), some (aI a.length), some (aI ((rows.length + 1 : Nat) : Int)), some (aR lq), some (aR oq), v6, v7, v8] [] S3 (fun r S' => ∃ v, r = .inl v ∧ ∃ q us, v = vR (some q) ∧ Ob S' q (oIa us) ∧ us.length = a.length ∧ (∀ k, k < a.length → us.getD k 0 = (prOf (prs a rows) k : Int)) ∧ Fr0 S S' 2000) := by
      intro S3 us hI hlq3 hF3 v6 v7 v8 g6 g7 g8
      (repeat (refine BW.pl rfl rfl ?_))
      refine CW.arrI rfl rfl ⟨by omega, by omega⟩ (fun pq S4 hN4 => ?_)
      rw [show ((a.length : Nat) : Int).toNat = a.length by omega] at hN4
      have hpq4 := hN4.ob
      have hlq4 := hlq3.fr hN4.fr ⟨oNe rfl, Sep.no⟩
      have hlpq : lq ≠ pq := fun z => hlq3.old (oNe rfl) (by rw [z]; exact hN4.nil)
      have hF24 : Fr S2 S4 (fun m => m = lq) (12 + a.length) := (hF3.tr hN4.fr (fun _ _ z => z.elim)).w (fun _ _ z => z) (by omega)
      have hpz : S2.1 pq = oNil := Classical.byContradiction (fun z => hF3.1 pq z hN4.nil)
      have hplq : pq ≠ lq := Ne.symm hlpq
      refine BW.strV rfl rfl (by simp only [List.set, List.all_cons, List.all_nil, g6, g7, g8]; rfl) ?_
      (iterate 1 (refine BW.pl rfl rfl ?_))
      refine BW.stiV rfl rfl (by simp only [List.set, List.all_cons, List.all_nil, g7, g8]; rfl) ?_
      (iterate 1 (refine BW.pl rfl rfl ?_))
      refine BW.stiV rfl rfl (by simp only [List.set, List.all_cons, List.all_nil, g8]; rfl) ?_
      have loop : ∀ (N i j : Nat) (vs : List Int) (S5 : BS), (a.length - i) + (rows.length - j) ≤ N → i ≤ a.length → j ≤ rows.length → vs.length = a.length → (∀ k, k < i → vs.getD k 0 = (prOf (prs a rows) k : Int)) → (∀ k, i ≤ k → vs.getD k 0 = 0) → (∀ k, i ≤ k → prOf (prs a rows) k = prOf (prF a rows N i j) k) → Ob S5 pq (oIa vs) → Fr S4 S5 (fun m => m = pq) 0 → BW (d + 5) gm_X1_pairs 100 [some (aR (K 1)), some (aR l), some (aI a.length), some (aI ((rows.length + 1 : Nat) : Int)), some (aR lq), some (aR oq), some (aR pq), some (aI i), some (aI j)] [] S5 (fun r S' => ∃ v, r = .inl v ∧ ∃ q us, v = vR (some q) ∧ Ob S' q (oIa us) ∧ us.length = a.length ∧ (∀ k, k < a.length → us.getD k 0 = (prOf (prs a rows) k : Int)) ∧ Fr0 S S' 2000) := by
        intro N
        induction N with
        | zero =>
          intro i j vs S5 hN hi hj hvl hv1 hv2 hpr hpq5 hF5
          have hF : Fr0 S S5 2000 := ((hF2.tr hF24 (fun m hm z => absurd hlqz (by rw [← z]; exact hm))).tr hF5 (fun m hm z => absurd hpz (by rw [← z]; exact hF2.1 m hm))).w (fun _ _ z => z) (by omega)
          have hi9 : i = a.length := by omega
          (repeat (refine BW.pl rfl rfl ?_))
          refine BW.br rfl rfl (by first | omega | decide | (constructor <;> first | omega | decide)) (fun w => ?_) (fun w => by first | (exfalso; omega) | exact absurd w (by decide))
          (repeat (refine BW.pl rfl rfl ?_))
          exact BW.aret rfl rfl ⟨_, rfl, pq, vs, rfl, hpq5, hvl, fun k hk => hv1 k (by omega), hF⟩
        | succ N ih =>
          intro i j vs S5 hN hi hj hvl hv1 hv2 hpr hpq5 hF5
          have hF : Fr0 S S5 2000 := ((hF2.tr hF24 (fun m hm z => absurd hlqz (by rw [← z]; exact hm))).tr hF5 (fun m hm z => absurd hpz (by rw [← z]; exact hF2.1 m hm))).w (fun _ _ z => z) (by omega)
          have fin : ¬ (i < a.length ∧ j < rows.length) → BW (d + 5) gm_X1_pairs 147 [some (aR (K 1)), some (aR l), some (aI a.length), some (aI ((rows.length + 1 : Nat) : Int)), some (aR lq), some (aR oq), some (aR pq), some (aI i), some (aI j)] [] S5 (fun r S' => ∃ v, r = .inl v ∧ ∃ q us, v = vR (some q) ∧ Ob S' q (oIa us) ∧ us.length = a.length ∧ (∀ k, k < a.length → us.getD k 0 = (prOf (prs a rows) k : Int)) ∧ Fr0 S S' 2000) := fun hn => by
            (repeat (refine BW.pl rfl rfl ?_))
            refine BW.aret rfl rfl ⟨_, rfl, pq, vs, rfl, hpq5, hvl, fun k hk => ?_, hF⟩
            by_cases z : k < i
            · exact hv1 k z
            · rw [hv2 k (by omega), hpr k (by omega), prF_s, if_neg hn]
              rfl
          have hl5 := hl.fr hF ⟨oNe rfl, Sep.no⟩
          (repeat (refine BW.pl rfl rfl ?_))
          by_cases zi : i < a.length
          rotate_left
          · refine BW.br rfl rfl (by first | omega | decide | (constructor <;> first | omega | decide)) (fun w => ?_) (fun w => by first | (exfalso; omega) | exact absurd w (by decide))
            exact fin (fun h => zi h.1)
          refine BW.br rfl rfl (by first | omega | decide | (constructor <;> first | omega | decide)) (fun w => by first | (exfalso; omega) | exact absurd w (by decide)) (fun w => ?_)
          (repeat (refine BW.pl rfl rfl ?_))
          refine CW.e1 rfl rfl (by first | exact Or.inl rfl | exact Or.inr (tagO (by assumption) (by rfl) (by rfl)) | exact Or.inr (tagO (AdrIs.ox (by assumption)) (by rfl) (by rfl)) | exact Or.inr (tagO (PatIs.ox (by assumption)) (by rfl) (by rfl)) | exact Or.inr (tagO (Or0.ox (by assumption)) (by rfl) (by rfl))) (by first | exact Or.inl (by decide) | exact Or.inr ⟨_, rfl, by assumption⟩) rfl (B_alSize hl5) ?_
          rw [hxl]
          by_cases zj : j < rows.length
          rotate_left
          · refine BW.br rfl rfl (by first | omega | decide | (constructor <;> first | omega | decide)) (fun w => ?_) (fun w => by first | (exfalso; omega) | exact absurd w (by decide))
            exact fin (fun h => zj h.2)
          refine BW.br rfl rfl (by first | omega | decide | (constructor <;> first | omega | decide)) (fun w => by first | (exfalso; omega) | exact absurd w (by decide)) (fun w => ?_)
          have hF25 : Fr S2 S5 (fun m => m = lq ∨ m = pq) (12 + a.length) := ((hF24.w (W2 := fun m => m = lq ∨ m = pq) (fun _ _ z => Or.inl z) (Nat.le_refl _)).tr hF5 (fun _ _ z => Or.inr z)).w (fun _ _ z => z) (by omega)
          have hop : oq ≠ pq := fun z => hoq.old (oNe rfl) (by rw [z]; exact hpz)
          have hoq5 := hoq.fr hF25 ⟨oNe rfl, fun z => z.elim hne hop⟩
          have nos : NoS S2 (fun m => m = lq ∨ m = pq) := NoS.two (NoS.one hlq2 rfl) (fun m hm hz => by rw [show m = pq from hm] at hz; rw [hpz] at hz; exact absurd (show (0 : Nat) = 1 from hz) (by decide))
          have hys5 := hys.fr hF25 nos
          have hs5 := hs2.fr hF25 nos
          have hlq5 := hlq4.fr hF5 ⟨oNe rfl, hlpq⟩
          obtain ⟨y1, y2, c1, c2, c3, c4, c5⟩ := cmp hys5 hs5 zi zj
          obtain ⟨p1, p2, p3⟩ := prF_of (n := N) (a := a) (b := rows) zi zj
          have ei : ((i : Nat) : Int).toNat = i := by omega
          (repeat (refine BW.pl rfl rfl ?_))
          refine CW.aald rfl hoq5 ⟨by omega, by omega⟩ ?_
          rw [ei, c1]
          (repeat (refine BW.pl rfl rfl ?_))
          refine CW.e2 rfl rfl (by first | exact Or.inl rfl | exact Or.inr (tagO (by assumption) (by rfl) (by rfl)) | exact Or.inr (tagO (AdrIs.ox (by assumption)) (by rfl) (by rfl)) | exact Or.inr (tagO (PatIs.ox (by assumption)) (by rfl) (by rfl)) | exact Or.inr (tagO (Or0.ox (by assumption)) (by rfl) (by rfl))) (by first | exact Or.inl (by decide) | exact Or.inr ⟨_, rfl, by assumption⟩) rfl (C_alGet (k := j) hl5 (by omega) c2 rfl) ?_
          refine CW.e2 rfl rfl (by first | exact Or.inl rfl | exact Or.inr (tagO (by assumption) (by rfl) (by rfl)) | exact Or.inr (tagO (AdrIs.ox (by assumption)) (by rfl) (by rfl)) | exact Or.inr (tagO (PatIs.ox (by assumption)) (by rfl) (by rfl)) | exact Or.inr (tagO (Or0.ox (by assumption)) (by rfl) (by rfl))) (by first | exact Or.inl (by decide) | exact Or.inr ⟨_, rfl, by assumption⟩) rfl (B_seq c3 c4 c5) ?_
          by_cases zz : a.getD i [] = rows.getD j []
          · obtain ⟨q1, q2⟩ := p1 zz
            rw [if_pos zz]
            refine BW.br rfl rfl (by first | omega | decide | (constructor <;> first | omega | decide)) (fun w => by first | (exfalso; omega) | exact absurd w (by decide)) (fun w => ?_)
            (repeat (refine BW.pl rfl rfl ?_))
            refine CW.iast rfl hpq5 ⟨by omega, by omega⟩ (by constructor <;> omega) (fun S6 hpq6 hF6 => ?_)
            rw [ei] at hpq6
            (iterate 3 (refine BW.pl rfl rfl ?_))
            have e1 : (i : Int) + 1 = ((i + 1 : Nat) : Int) := by omega
            have e2 : (j : Int) + 1 = ((j + 1 : Nat) : Int) := by omega
            show BW (d + 5) gm_X1_pairs 100 [some (aR (K 1)), some (aR l), some (aI a.length), some (aI ((rows.length + 1 : Nat) : Int)), some (aR lq), some (aR oq), some (aR pq), some (aI ((i : Int) + 1)), some (aI ((j : Int) + 1))] [] S6 _
            rw [e1, e2]
            refine ih (i + 1) (j + 1) _ S6 (by omega) (by omega) (by omega) (by rw [List.length_set]; exact hvl) (fun k hk => ?_) (fun k hk => ?_) (fun k hk => by rw [hpr k (by omega)]; exact q2 k hk) hpq6 ((hF5.tr hF6 (fun _ _ z => z)).w (fun _ _ z => z) (by omega))
            · by_cases zk : k = i
              · rw [zk, List.getD_eq_getElem?_getD, List.getElem?_set_self (by omega), hpr i (Nat.le_refl _), q1]
                exact e2
              · rw [List.getD_eq_getElem?_getD, List.getElem?_set_ne (by omega), ← List.getD_eq_getElem?_getD]
                exact hv1 k (by omega)
            · rw [List.getD_eq_getElem?_getD, List.getElem?_set_ne (by omega), ← List.getD_eq_getElem?_getD]
              exact hv2 k (by omega)
          · rw [if_neg zz]
            have ex1 : (((rows.length + 1 : Nat) : Int)) * ((i : Int) + 1) + (j : Int) = (((rows.length + 1) * (i + 1) + j : Nat) : Int) := cel_e (rows.length + 1) (i + 1) j
            have ex2 : (((rows.length + 1 : Nat) : Int)) * (i : Int) + (j : Int) + 1 = (((rows.length + 1) * i + (j + 1) : Nat) : Int) := cel_e1 (rows.length + 1) i j
            have c9 := cel_lt (i := i + 1) (j := j) (W := rows.length + 1) (M := a.length + 1) (by omega) (by omega)
            have c8 := cel_lt (i := i) (j := j + 1) (W := rows.length + 1) (M := a.length + 1) (by omega) (by omega)
            refine BW.br rfl rfl (by first | omega | decide | (constructor <;> first | omega | decide)) (fun w => ?_) (fun w => by first | (exfalso; omega) | exact absurd w (by decide))
            (repeat (refine BW.pl rfl rfl ?_))
            refine CW.iald rfl hlq5 (by rw [ex1, hI.1]; exact ⟨by omega, by omega⟩) (fun _ => ?_)
            rw [ex1, show (((rows.length + 1) * (i + 1) + j : Nat) : Int).toNat = (rows.length + 1) * (i + 1) + j by omega, hI.2 (i + 1) j (by omega) (by omega) (by omega)]
            (repeat (refine BW.pl rfl rfl ?_))
            refine CW.iald rfl hlq5 (by rw [ex2, hI.1]; exact ⟨by omega, by omega⟩) (fun _ => ?_)
            rw [ex2, show (((rows.length + 1) * i + (j + 1) : Nat) : Int).toNat = (rows.length + 1) * i + (j + 1) by omega, hI.2 i (j + 1) (by omega) (by omega) (by omega)]
            have l1 := lcA_le (a := a) (b := rows) (i := i + 1) (j := j)
            have l2 := lcA_le (a := a) (b := rows) (i := i) (j := j + 1)
            by_cases z2 : lcA a rows i (j + 1) ≤ lcA a rows (i + 1) j
            · obtain ⟨q1, q2⟩ := p2 zz z2
              refine BW.br rfl rfl (by first | omega | decide | (constructor <;> first | omega | decide)) (fun w2 => by first | (exfalso; omega) | exact absurd w2 (by decide)) (fun w2 => ?_)
              (iterate 2 (refine BW.pl rfl rfl ?_))
              have e1 : (i : Int) + 1 = ((i + 1 : Nat) : Int) := by omega
              show BW (d + 5) gm_X1_pairs 100 [some (aR (K 1)), some (aR l), some (aI a.length), some (aI ((rows.length + 1 : Nat) : Int)), some (aR lq), some (aR oq), some (aR pq), some (aI ((i : Int) + 1)), some (aI j)] [] S5 _
              rw [e1]
              refine ih (i + 1) j vs S5 (by omega) (by omega) hj hvl (fun k hk => ?_) (fun k hk => hv2 k (by omega)) (fun k hk => by rw [hpr k (by omega), q2]) hpq5 hF5
              by_cases zk : k = i
              · rw [zk, hv2 i (Nat.le_refl _), hpr i (Nat.le_refl _), q1]; rfl
              · exact hv1 k (by omega)
            · have q2 := p3 zz z2
              refine BW.br rfl rfl (by first | omega | decide | (constructor <;> first | omega | decide)) (fun w2 => ?_) (fun w2 => by first | (exfalso; omega) | exact absurd w2 (by decide))
              (iterate 2 (refine BW.pl rfl rfl ?_))
              have e2 : (j : Int) + 1 = ((j + 1 : Nat) : Int) := by omega
              show BW (d + 5) gm_X1_pairs 100 [some (aR (K 1)), some (aR l), some (aI a.length), some (aI ((rows.length + 1 : Nat) : Int)), some (aR lq), some (aR oq), some (aR pq), some (aI i), some (aI ((j : Int) + 1))] [] S5 _
              rw [e2]
              exact ih i (j + 1) vs S5 (by omega) hi (by omega) hvl hv1 hv2 (fun k hk => by rw [hpr k hk, q2]) hpq5 hF5
      exact loop (a.length + rows.length) 0 0 _ S4 (by omega) (Nat.zero_le _) (Nat.zero_le _) (List.length_replicate ..) (fun k hk => absurd hk (Nat.not_lt_zero _)) (fun k _ => by rw [List.getD_eq_getElem?_getD, List.getElem?_replicate]; split <;> rfl) (fun k _ => rfl) hpq4 Fr.rf
    -- the table
    have inner : ∀ (Q : GO → BS → Prop) (i : Nat), i < a.length → (∀ (S4 : BS) (us' : List Int) (v8 : Option GV), gn1 v8 = true → LgI a rows us' (i + 1) 0 → Ob S4 lq (oIa us') → Fr S2 S4 (fun m => m = lq) 0 → BW (d + 5) gm_X1_pairs 91 [some (aR (K 1)), some (aR l), some (aI a.length), some (aI ((rows.length + 1 : Nat) : Int)), some (aR lq), some (aR oq), some (aI i), some (aI (((0 : Nat) : Int) - 1)), v8] [] S4 Q) → ∀ (J : Nat) (us : List Int) (S3 : BS) (v8 : Option GV), gn1 v8 = true → J ≤ rows.length → LgI a rows us (i + 1) J → Ob S3 lq (oIa us) → Fr S2 S3 (fun m => m = lq) 0 → BW (d + 5) gm_X1_pairs 37 [some (aR (K 1)), some (aR l), some (aI a.length), some (aI ((rows.length + 1 : Nat) : Int)), some (aR lq), some (aR oq), some (aI i), some (aI ((J : Int) - 1)), v8] [] S3 Q := by
      intro Q i hi kk J
      induction J with
      | zero =>
        intro us S3 v8 g8 hJ hI hlq3 hF3
        (repeat (refine BW.pl rfl rfl ?_))
        refine BW.br rfl rfl (by first | omega | decide | (constructor <;> first | omega | decide)) (fun w => ?_) (fun w => by first | (exfalso; omega) | exact absurd w (by decide))
        exact kk S3 us v8 g8 hI hlq3 hF3
      | succ J ih =>
        intro us S3 v8 g8 hJ hI hlq3 hF3
        have eJ : ((J + 1 : Nat) : Int) - 1 = (J : Int) := by omega
        have ei : ((i : Nat) : Int).toNat = i := by omega
        have nos : NoS S2 (fun m => m = lq) := NoS.one hlq2 rfl
        have hoq3 := hoq.fr hF3 ⟨oNe rfl, hne⟩
        have hl3 := hl2.fr hF3 ⟨oNe rfl, hl2.ne hlq2 (oNe rfl)⟩
        have hys3 := hys.fr hF3 nos
        have hs3 := hs2.fr hF3 nos
        obtain ⟨y1, y2, c1, c2, c3, c4, c5⟩ := cmp hys3 hs3 hi (show J < rows.length by omega)
        have ex0 : (((rows.length + 1 : Nat) : Int)) * (i : Int) + (J : Int) = (((rows.length + 1) * i + J : Nat) : Int) := cel_e (rows.length + 1) i J
        have ex1 : (((rows.length + 1 : Nat) : Int)) * ((i : Int) + 1) + (J : Int) = (((rows.length + 1) * (i + 1) + J : Nat) : Int) := cel_e (rows.length + 1) (i + 1) J
        have ex2 : (((rows.length + 1 : Nat) : Int)) * (i : Int) + (J : Int) + 1 = (((rows.length + 1) * i + (J + 1) : Nat) : Int) := cel_e1 (rows.length + 1) i J
        have ex3 : (((rows.length + 1 : Nat) : Int)) * ((i : Int) + 1) + (J : Int) + 1 = (((rows.length + 1) * (i + 1) + (J + 1) : Nat) : Int) := cel_e1 (rows.length + 1) (i + 1) J
        have d0 := cel_lt (i := i) (j := J) (W := rows.length + 1) (M := a.length + 1) (by omega) (by omega)
        have d1 := cel_lt (i := i + 1) (j := J) (W := rows.length + 1) (M := a.length + 1) (by omega) (by omega)
        have d2 := cel_lt (i := i) (j := J + 1) (W := rows.length + 1) (M := a.length + 1) (by omega) (by omega)
        have d3 := cel_lt (i := i + 1) (j := J + 1) (W := rows.length + 1) (M := a.length + 1) (by omega) (by omega)
        have l0 := lcA_le (a := a) (b := rows) (i := i) (j := J)
        have l1 := lcA_le (a := a) (b := rows) (i := i + 1) (j := J)
        have l2 := lcA_le (a := a) (b := rows) (i := i) (j := J + 1)
        have l3 := lcA_le (a := a) (b := rows) (i := i + 1) (j := J + 1)
        have hst := lcA_s (a := a) (b := rows) hi (show J < rows.length by omega)
        have at88 : ∀ (vv v8 : Int), vv = (lcA a rows i J : Int) → BW (d + 5) gm_X1_pairs 88 [some (aR (K 1)), some (aR l), some (aI a.length), some (aI ((rows.length + 1 : Nat) : Int)), some (aR lq), some (aR oq), some (aI i), some (aI (J : Int)), some (aI v8)] [.inl vv, .inl (((rows.length + 1 : Nat) : Int) * (i : Int) + (J : Int)), aR lq] S3 Q := fun vv v8 hvv => by
          subst hvv
          refine CW.iast rfl hlq3 (by rw [ex0, hI.1]; exact ⟨by omega, by omega⟩) (by constructor <;> omega) (fun S4 hlq4 hF4 => ?_)
          rw [ex0, show (((rows.length + 1) * i + J : Nat) : Int).toNat = (rows.length + 1) * i + J by omega] at hlq4
          (iterate 2 (refine BW.pl rfl rfl ?_))
          exact ih _ S4 (some (aI v8)) rfl (by omega) (hI.set hi (by omega)) hlq4 ((hF3.tr hF4 (fun _ _ z => z)).w (fun _ _ z => z) (by omega))
        rw [eJ]
        (repeat (refine BW.pl rfl rfl ?_))
        refine BW.br rfl rfl (by first | omega | decide | (constructor <;> first | omega | decide)) (fun w => by first | (exfalso; omega) | exact absurd w (by decide)) (fun w => ?_)
        (repeat (refine BW.pl rfl rfl ?_))
        refine CW.aald rfl hoq3 ⟨by omega, by omega⟩ ?_
        rw [ei, c1]
        (repeat (refine BW.pl rfl rfl ?_))
        refine CW.e2 rfl rfl (by first | exact Or.inl rfl | exact Or.inr (tagO (by assumption) (by rfl) (by rfl)) | exact Or.inr (tagO (AdrIs.ox (by assumption)) (by rfl) (by rfl)) | exact Or.inr (tagO (PatIs.ox (by assumption)) (by rfl) (by rfl)) | exact Or.inr (tagO (Or0.ox (by assumption)) (by rfl) (by rfl))) (by first | exact Or.inl (by decide) | exact Or.inr ⟨_, rfl, by assumption⟩) rfl (C_alGet (k := J) hl3 (by omega) c2 rfl) ?_
        refine CW.e2 rfl rfl (by first | exact Or.inl rfl | exact Or.inr (tagO (by assumption) (by rfl) (by rfl)) | exact Or.inr (tagO (AdrIs.ox (by assumption)) (by rfl) (by rfl)) | exact Or.inr (tagO (PatIs.ox (by assumption)) (by rfl) (by rfl)) | exact Or.inr (tagO (Or0.ox (by assumption)) (by rfl) (by rfl))) (by first | exact Or.inl (by decide) | exact Or.inr ⟨_, rfl, by assumption⟩) rfl (B_seq c3 c4 c5) ?_
        refine BW.stiV rfl rfl (by simp only [List.set, List.all_cons, List.all_nil, g8]; rfl) ?_
        by_cases zz : a.getD i [] = rows.getD J []
        · rw [if_pos zz] at hst ⊢
          (repeat (refine BW.pl rfl rfl ?_))
          refine BW.br rfl rfl (by first | omega | decide | (constructor <;> first | omega | decide)) (fun w2 => by first | (exfalso; omega) | exact absurd w2 (by decide)) (fun w2 => ?_)
          (repeat (refine BW.pl rfl rfl ?_))
          refine CW.iald rfl hlq3 (by rw [ex3, hI.1]; exact ⟨by omega, by omega⟩) (fun _ => ?_)
          rw [ex3, show (((rows.length + 1) * (i + 1) + (J + 1) : Nat) : Int).toNat = (rows.length + 1) * (i + 1) + (J + 1) by omega, hI.2 (i + 1) (J + 1) (by omega) (by omega) (by omega)]
          (repeat (refine BW.pl rfl rfl ?_))
          exact at88 _ 1 (by rw [hst]; omega)
        · rw [if_neg zz] at hst ⊢
          (repeat (refine BW.pl rfl rfl ?_))
          refine BW.br rfl rfl (by first | omega | decide | (constructor <;> first | omega | decide)) (fun w2 => ?_) (fun w2 => by first | (exfalso; omega) | exact absurd w2 (by decide))
          (repeat (refine BW.pl rfl rfl ?_))
          refine CW.iald rfl hlq3 (by rw [ex1, hI.1]; exact ⟨by omega, by omega⟩) (fun _ => ?_)
          rw [ex1, show (((rows.length + 1) * (i + 1) + J : Nat) : Int).toNat = (rows.length + 1) * (i + 1) + J by omega, hI.2 (i + 1) J (by omega) (by omega) (by omega)]
          (repeat (refine BW.pl rfl rfl ?_))
          refine CW.iald rfl hlq3 (by rw [ex2, hI.1]; exact ⟨by omega, by omega⟩) (fun _ => ?_)
          rw [ex2, show (((rows.length + 1) * i + (J + 1) : Nat) : Int).toNat = (rows.length + 1) * i + (J + 1) by omega, hI.2 i (J + 1) (by omega) (by omega) (by omega)]
          refine BW.maxV (x3 := (lcA a rows i J : Int)) rfl (Nat.le_of_ble_eq_true rfl) ⟨by constructor <;> omega, by constructor <;> omega⟩ (by rw [hst]; split <;> omega) ?_
          exact at88 _ 0 rfl
    have outer : ∀ (I : Nat) (us : List Int) (S3 : BS) (v7 v8 : Option GV), gn1 v7 = true → gn1 v8 = true → I ≤ a.length → LgI a rows us I rows.length → Ob S3 lq (oIa us) → Fr S2 S3 (fun m => m = lq) 0 → BW (d + 5) gm_X1_pairs 30 [some (aR (K 1)), some (aR l), some (aI a.length), some (aI ((rows.length + 1 : Nat) : Int)), some (aR lq), some (aR oq), some (aI ((I : Int) - 1)), v7, v8] [] S3 (fun r S' => ∃ v, r = .inl v ∧ ∃ q us, v = vR (some q) ∧ Ob S' q (oIa us) ∧ us.length = a.length ∧ (∀ k, k < a.length → us.getD k 0 = (prOf (prs a rows) k : Int)) ∧ Fr0 S S' 2000) := by
      intro I
      induction I with
      | zero =>
        intro us S3 v7 v8 g7 g8 hI9 hI hlq3 hF3
        (repeat (refine BW.pl rfl rfl ?_))
        refine BW.br rfl rfl (by first | omega | decide | (constructor <;> first | omega | decide)) (fun w => ?_) (fun w => by first | (exfalso; omega) | exact absurd w (by decide))
        exact walk S3 us hI hlq3 hF3 _ v7 v8 rfl g7 g8
      | succ I ih =>
        intro us S3 v7 v8 g7 g8 hI9 hI hlq3 hF3
        have eI : ((I + 1 : Nat) : Int) - 1 = (I : Int) := by omega
        have hl3 := hl2.fr hF3 ⟨oNe rfl, hl2.ne hlq2 (oNe rfl)⟩
        rw [eI]
        (repeat (refine BW.pl rfl rfl ?_))
        refine BW.br rfl rfl (by first | omega | decide | (constructor <;> first | omega | decide)) (fun w => by first | (exfalso; omega) | exact absurd w (by decide)) (fun w => ?_)
        (repeat (refine BW.pl rfl rfl ?_))
        refine CW.e1 rfl rfl (by first | exact Or.inl rfl | exact Or.inr (tagO (by assumption) (by rfl) (by rfl)) | exact Or.inr (tagO (AdrIs.ox (by assumption)) (by rfl) (by rfl)) | exact Or.inr (tagO (PatIs.ox (by assumption)) (by rfl) (by rfl)) | exact Or.inr (tagO (Or0.ox (by assumption)) (by rfl) (by rfl))) (by first | exact Or.inl (by decide) | exact Or.inr ⟨_, rfl, by assumption⟩) rfl (B_alSize hl3) ?_
        rw [hxl]
        (repeat (refine BW.pl rfl rfl ?_))
        refine BW.stiV rfl rfl (by simp only [List.set, List.all_cons, List.all_nil, g7, g8]; rfl) ?_
        refine inner _ I (by omega) (fun S4 us' v8 g8 hI4 hlq4 hF4 => ?_) rows.length us S3 v8 g8 (Nat.le_refl _) hI hlq3 hF3
        refine BW.incV rfl rfl rfl (by simp only [List.set, List.all_cons, List.all_nil, g8]; rfl) ?_
        (iterate 1 (refine BW.pl rfl rfl ?_))
        exact ih us' S4 _ v8 rfl g8 (by omega) hI4.row hlq4 hF4
    (iterate 5 (refine BW.pl rfl rfl ?_))
    exact outer a.length _ S2 none none rfl rfl (Nat.le_refl _) LgI.start hlq2 Fr.rf
  (repeat (refine BW.pl rfl rfl ?_))
  by_cases z0 : a.length = 0
  · refine BW.br rfl rfl (by first | omega | decide | (constructor <;> first | omega | decide)) (fun w => by first | (exfalso; omega) | exact absurd w (by decide)) (fun w => ?_)
    (repeat (refine BW.pl rfl rfl ?_))
    refine CW.arrR rfl rfl rfl ⟨by omega, by omega⟩ (fun oq S2 hN2 => ?_)
    have hoq := hN2.ob
    have hne : oq ≠ lq := fun z => hlq1.old (oNe rfl) (by rw [← z]; exact hN2.nil)
    (iterate 1 (refine BW.pl rfl rfl ?_))
    exact at25 S2 oq [] ((hN1.fr.tr0 hN2.fr (by omega))) (Classical.byContradiction (fun z => hN1.fr.1 oq z hN2.nil)) hne hoq ⟨by rw [z0]; rfl, fun j hj => absurd hj (by omega)⟩ (hlq1.fr hN2.fr ⟨oNe rfl, Sep.no⟩)
  · refine BW.br rfl rfl (by first | omega | decide | (constructor <;> first | omega | decide)) (fun w => ?_) (fun w => by first | (exfalso; omega) | exact absurd w (by decide))
    (repeat (refine BW.pl rfl rfl ?_))
    refine CW.c3 rfl rfl (by first | exact Or.inl rfl | exact Or.inr (tagO (by assumption) (by rfl) (by rfl)) | exact Or.inr (tagO (AdrIs.ox (by assumption)) (by rfl) (by rfl)) | exact Or.inr (tagO (PatIs.ox (by assumption)) (by rfl) (by rfl)) | exact Or.inr (tagO (Or0.ox (by assumption)) (by rfl) (by rfl))) (by first | exact Or.inl (by decide) | exact Or.inr ⟨_, rfl, by assumption⟩) rfl (L_rowsIn (d := d + 1) (f := 1) (l := A.1.length) hL1 (Nat.le_refl _) (by omega) (Nat.le_refl _) (by omega) (by omega) rfl (by rw [hal])) ?_
    rintro r S2 ⟨oq, ys, rfl, hoz, hoq, hys, hF2⟩
    have hne : oq ≠ lq := fun z => hlq1.old (oNe rfl) (by rw [← z]; exact hoz)
    have eseg : rowsOfL (seg A.1 1 A.1.length) = a := by
      rw [ha]
      unfold seg
      rw [show (1 - 1 : Nat) = 0 from rfl, List.drop_zero, List.take_of_length_le (by omega)]
    rw [eseg] at hys
    exact at25 S2 oq ys (hN1.fr.tr0 hF2 (by omega)) (Classical.byContradiction (fun z => hN1.fr.1 oq z hoz)) hne hoq hys (hlq1.fr hF2 ⟨oNe rfl, Sep.no⟩)
end PA
