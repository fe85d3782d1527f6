set_option maxRecDepth 100000
/-! the twin's acts with rows: are the same, numbers, what is told, blanks, cutting -/
theorem ext_getD {xs ys : List Int} (hl : xs.length = ys.length) (h : ∀ i, i < xs.length → xs.getD i 0 = ys.getD i 0) : xs = ys := by
  refine List.ext_getElem hl (fun i h1 h2 => ?_)
  have := h i h1
  rw [List.getD_eq_getElem?_getD, List.getD_eq_getElem?_getD, List.getElem?_eq_getElem h1, List.getElem?_eq_getElem h2] at this
  exact this
section TRow2
variable {d : Nat} {σ τ : TS} {s l l1 : List Int} {fs as : List Nat} {pre mid post t : List SLine} {p : Nat} {h o : List (List Int)} {fi : Nat → List (List Int)} {m : Nat → Option Int} {n : Int} {rp : Bool} {rs : List (List Int)} {xs ys : List Int}
theorem T_areSame {a b : Nat} {u v : Int} (hu : u = a) (hv : v = b) (ha : RowIs σ a xs) (hb : RowIs σ b ys) (ha8 : a < 868) (hb8 : b < 868) : TE (d + 2) tk_areSame [.inr 0, .inl u, .inl v] σ (some (b2i (decide (xs = ys)))) σ := by
  subst hu hv
  have hla := ha.2.1
  have hlb := hb.2.1
  refine TM.of rfl rfl ?_
  (repeat (first | (refine TW.getf rfl rfl rfl (fun _ => ?_)) | (refine TW.pl rfl rfl ?_)))
  refine TW.cv1 rfl rfl rfl (Nat.le_of_ble_eq_true rfl) (T_lenR ha rfl ha8) ?_; rintro _ _ ⟨rfl, rfl⟩
  (repeat (first | (refine TW.getf rfl rfl rfl (fun _ => ?_)) | (refine TW.pl rfl rfl ?_)))
  refine TW.cv1 rfl rfl rfl (Nat.le_of_ble_eq_true rfl) (T_lenR hb rfl hb8) ?_; rintro _ _ ⟨rfl, rfl⟩
  have stop : ∀ (k : Int), 0 ≤ k → k ≤ 100 → xs ≠ ys → TW (d + 1) tc_areSame 13 [some (.inr 0), some (.inl a), some (.inl b), some (.inl 0), some (.inl k)] [] σ (fun r' σ' => some (b2i (decide (xs = ys))) = r' ∧ σ = σ') := by
    intro k h0 h1 hne
    have fin : TW (d + 1) tc_areSame 35 [some (.inr 0), some (.inl a), some (.inl b), some (.inl 0), some (.inl k)] [] σ (fun r' σ' => some (b2i (decide (xs = ys))) = r' ∧ σ = σ') := by
      (repeat (first | (refine TW.getf rfl rfl rfl (fun _ => ?_)) | (refine TW.pl rfl rfl ?_)))
      exact TW.zret rfl (Or.inl rfl) ⟨by rw [decide_eq_false hne]; rfl, rfl⟩
    (repeat (first | (refine TW.getf rfl rfl rfl (fun _ => ?_)) | (refine TW.pl rfl rfl ?_)))
    refine TW.cv1 rfl rfl rfl (Nat.le_of_ble_eq_true rfl) (T_lenR ha rfl ha8) ?_; rintro _ _ ⟨rfl, rfl⟩
    refine TW.br rfl rfl (by first | omega | exact b2i_R _ | exact ⟨b2i_R _, by omega⟩) (fun q1 => ?_) (fun q1 => ?_)
    · exact fin
    (repeat (first | (refine TW.getf rfl rfl rfl (fun _ => ?_)) | (refine TW.pl rfl rfl ?_)))
    refine TW.br rfl rfl (by first | omega | exact b2i_R _ | exact ⟨b2i_R _, by omega⟩) (fun q2 => ?_) (fun q2 => ?_)
    · exact fin
    · exact absurd rfl q2
  have loop : ∀ (q j : Nat) (k : Int), j + q = xs.length → k = j → xs.length = ys.length → (∀ i, i < j → xs.getD i 0 = ys.getD i 0) → TW (d + 1) tc_areSame 13 [some (.inr 0), some (.inl a), some (.inl b), some (.inl 1), some (.inl k)] [] σ (fun r' σ' => some (b2i (decide (xs = ys))) = r' ∧ σ = σ') := by
    intro q
    induction q with
    | zero =>
      intro j k hj hk hl he
      (repeat (first | (refine TW.getf rfl rfl rfl (fun _ => ?_)) | (refine TW.pl rfl rfl ?_)))
      refine TW.cv1 rfl rfl rfl (Nat.le_of_ble_eq_true rfl) (T_lenR ha rfl ha8) ?_; rintro _ _ ⟨rfl, rfl⟩
      refine TW.br rfl rfl (by first | omega | exact b2i_R _ | exact ⟨b2i_R _, by omega⟩) (fun q1 => ?_) (fun q1 => ?_)
      · (repeat (first | (refine TW.getf rfl rfl rfl (fun _ => ?_)) | (refine TW.pl rfl rfl ?_)))
        exact TW.zret rfl (Or.inr rfl) ⟨by rw [decide_eq_true (ext_getD hl (fun i hi => he i (by omega)))]; rfl, rfl⟩
      · omega
    | succ q ih =>
      intro j k hj hk hl he
      have hkn : k.toNat = j := by omega
      refine TW.wR (fun hR => ?_)
      have hra : inR (xs.getD j 0) := by rw [← ha.2.2 j (by omega)]; exact hR.2 6 _
      have hrb : inR (ys.getD j 0) := by rw [← hb.2.2 j (by omega)]; exact hR.2 6 _
      (repeat (first | (refine TW.getf rfl rfl rfl (fun _ => ?_)) | (refine TW.pl rfl rfl ?_)))
      refine TW.cv1 rfl rfl rfl (Nat.le_of_ble_eq_true rfl) (T_lenR ha rfl ha8) ?_; rintro _ _ ⟨rfl, rfl⟩
      refine TW.br rfl rfl (by first | omega | exact b2i_R _ | exact ⟨b2i_R _, by omega⟩) (fun q1 => ?_) (fun q1 => ?_)
      · omega
      (repeat (first | (refine TW.getf rfl rfl rfl (fun _ => ?_)) | (refine TW.pl rfl rfl ?_)))
      refine TW.br rfl rfl (by first | omega | exact b2i_R _ | exact ⟨b2i_R _, by omega⟩) (fun q2 => ?_) (fun q2 => ?_)
      · exact absurd q2 (by decide)
      (repeat (first | (refine TW.getf rfl rfl rfl (fun _ => ?_)) | (refine TW.pl rfl rfl ?_)))
      refine TW.cv2 rfl rfl rfl (Nat.le_of_ble_eq_true rfl) (T_signR ha rfl ha8 (by omega)) ?_; rintro _ _ ⟨rfl, rfl⟩
      (repeat (first | (refine TW.getf rfl rfl rfl (fun _ => ?_)) | (refine TW.pl rfl rfl ?_)))
      refine TW.cv2 rfl rfl rfl (Nat.le_of_ble_eq_true rfl) (T_signR hb rfl hb8 (by omega)) ?_; rintro _ _ ⟨rfl, rfl⟩
      rw [hkn]
      refine TW.br rfl rfl ⟨hra, hrb⟩ (fun q3 => ?_) (fun q3 => ?_)
      · (iterate 4 (first | (refine TW.getf rfl rfl rfl (fun _ => ?_)) | (refine TW.pl rfl rfl ?_)))
        exact stop (k + 1) (by omega) (by omega) (fun z => q3 (by rw [z]))
      · (iterate 5 (first | (refine TW.getf rfl rfl rfl (fun _ => ?_)) | (refine TW.pl rfl rfl ?_)))
        refine ih (j + 1) (k + 1) (by omega) (by omega) hl (fun i hi => ?_)
        by_cases e : i = j
        · rw [e]; exact q3
        · exact he i (by omega)
  refine TW.br rfl rfl (by first | omega | exact b2i_R _ | exact ⟨b2i_R _, by omega⟩) (fun q0 => ?_) (fun q0 => ?_)
  · (iterate 4 (first | (refine TW.getf rfl rfl rfl (fun _ => ?_)) | (refine TW.pl rfl rfl ?_)))
    exact stop 0 (by decide) (by decide) (fun z => q0 (by rw [z]))
  · (iterate 5 (first | (refine TW.getf rfl rfl rfl (fun _ => ?_)) | (refine TW.pl rfl rfl ?_)))
    exact loop xs.length 0 0 (by omega) rfl (by omega) (fun i hi => absurd hi (Nat.not_lt_zero _))
theorem T_makesNumber {k : Nat} {v : Int} (hv : v = k) (hk : k < 1000) (hM : MadeIs σ xs) (hl : xs.length < 90000) : TM (d + 2) tk_makesNumber [.inr 0, .inl v] σ (fun r τ => r = none ∧ MadeIs τ (xs ++ sNum k) ∧ TFr [20] [19] σ τ) := by
  subst hv
  refine TM.of rfl rfl ?_
  have p3 : ∀ (τ : TS) (zs : List Int), MadeIs τ zs → zs.length < 95000 → TFr [20] [19] σ τ → zs ++ [48 + ((k % 10 : Nat) : Int)] = xs ++ sNum k → TW (d + 1) tc_makesNumber 22 [some (.inr 0), some (.inl k)] [] τ (fun r τ => r = none ∧ MadeIs τ (xs ++ sNum k) ∧ TFr [20] [19] σ τ) := by
    intro τ zs hm hz hf he
    (repeat (first | (refine TW.getf rfl rfl rfl (fun _ => ?_)) | (refine TW.pl rfl rfl ?_)))
    refine TW.irem rfl (by omega) ?_
    (repeat (first | (refine TW.getf rfl rfl rfl (fun _ => ?_)) | (refine TW.pl rfl rfl ?_)))
    rw [show (48 : Int) + (k : Int) % 10 = 48 + ((k % 10 : Nat) : Int) by omega]
    refine TW.cv1 rfl rfl rfl (Nat.le_of_ble_eq_true rfl) (T_makes hm (by omega) (by omega)) ?_
    rintro _ τ1 ⟨rfl, hm1, hf1⟩
    exact TW.vret rfl ⟨rfl, by rw [← he]; exact hm1, hf.trans hf1⟩
  have p2 : ∀ (τ : TS) (zs : List Int), MadeIs τ zs → zs.length < 94000 → TFr [20] [19] σ τ → zs ++ (if 9 < k then [48 + ((k / 10 % 10 : Nat) : Int)] else []) ++ [48 + ((k % 10 : Nat) : Int)] = xs ++ sNum k → TW (d + 1) tc_makesNumber 10 [some (.inr 0), some (.inl k)] [] τ (fun r τ => r = none ∧ MadeIs τ (xs ++ sNum k) ∧ TFr [20] [19] σ τ) := by
    intro τ zs hm hz hf he
    (repeat (first | (refine TW.getf rfl rfl rfl (fun _ => ?_)) | (refine TW.pl rfl rfl ?_)))
    refine TW.br rfl rfl (by first | omega | exact b2i_R _ | exact ⟨b2i_R _, by omega⟩) (fun q1 => ?_) (fun q1 => ?_)
    · rw [if_neg (by omega), List.append_nil] at he
      exact p3 τ zs hm (by omega) hf he
    · rw [if_pos (by omega)] at he
      (repeat (first | (refine TW.getf rfl rfl rfl (fun _ => ?_)) | (refine TW.pl rfl rfl ?_)))
      refine TW.idiv rfl (by omega) ?_
      (repeat (first | (refine TW.getf rfl rfl rfl (fun _ => ?_)) | (refine TW.pl rfl rfl ?_)))
      refine TW.irem rfl (by omega) ?_
      (repeat (first | (refine TW.getf rfl rfl rfl (fun _ => ?_)) | (refine TW.pl rfl rfl ?_)))
      rw [show (48 : Int) + (k : Int) / 10 % 10 = 48 + ((k / 10 % 10 : Nat) : Int) by omega]
      refine TW.cv1 rfl rfl rfl (Nat.le_of_ble_eq_true rfl) (T_makes hm (by omega) (by omega)) ?_
      rintro _ τ1 ⟨rfl, hm1, hf1⟩
      exact p3 τ1 _ hm1 (by simp; omega) (hf.trans hf1) he
  (repeat (first | (refine TW.getf rfl rfl rfl (fun _ => ?_)) | (refine TW.pl rfl rfl ?_)))
  refine TW.br rfl rfl (by first | omega | exact b2i_R _ | exact ⟨b2i_R _, by omega⟩) (fun q1 => ?_) (fun q1 => ?_)
  · refine p2 σ xs hM (by omega) TFr.rf ?_
    unfold sNum
    rw [if_neg (show ¬ 99 < k by omega), List.nil_append, List.append_assoc]
  · (repeat (first | (refine TW.getf rfl rfl rfl (fun _ => ?_)) | (refine TW.pl rfl rfl ?_)))
    refine TW.idiv rfl (by omega) ?_
    (repeat (first | (refine TW.getf rfl rfl rfl (fun _ => ?_)) | (refine TW.pl rfl rfl ?_)))
    rw [show (48 : Int) + (k : Int) / 100 = 48 + ((k / 100 : Nat) : Int) by omega]
    refine TW.cv1 rfl rfl rfl (Nat.le_of_ble_eq_true rfl) (T_makes hM (by omega) (by omega)) ?_
    rintro _ τ1 ⟨rfl, hm1, hf1⟩
    refine p2 τ1 _ hm1 (by simp; omega) hf1 ?_
    unfold sNum
    rw [if_pos (show 99 < k by omega)]
    simp
theorem TA.outR (hA : TA (t, p, h, o, fi, m, n, rp) σ) : σ.1 15 = o.length ∧ o.length ≤ 100 ∧ RowsIs σ 287 o := hA.2.2.1.2.1
theorem TA.out {o' : List (List Int)} (hA : TA (t, p, h, o, fi, m, n, rp) σ) (hn : τ.1 15 = o'.length ∧ o'.length ≤ 100 ∧ RowsIs τ 287 o') (hf : TFr fs as σ τ) (hs : RSame (fun k => 287 ≤ k ∧ k < 388) σ τ) (h1 : ∀ k ∈ [12, 14, 16, 17, 44], k ∉ fs) (h2 : ∀ k ∈ [7, 10, 11], k ∉ as) : TA (t, p, h, o', fi, m, n, rp) τ := by
  obtain ⟨a, b, c, e, g, i⟩ := hA
  refine ⟨a.same hf hs (h1 12 (by decide)) (h2 7 (by decide)) (fun k z => by omega), (hf.1 16 (h1 16 (by decide))).trans b, ⟨⟨(hf.1 14 (h1 14 (by decide))).trans c.1.1, c.1.2.1, c.1.2.2.same hs (fun k hk z => by have := c.1.2.1; omega)⟩, hn, fun k hk => ?_⟩, e.fr (hf.2 10 (h2 10 (by decide))), (hf.1 17 (h1 17 (by decide))).trans g, (hf.1 44 (h1 44 (by decide))).trans i⟩
  obtain ⟨c1, c2, c3⟩ := c.2.2 k hk
  rw [hf.2 11 (h2 11 (by decide))]
  exact ⟨c1, c2, c3.same hs (fun j hj z => by omega)⟩
/-- what was made comes into the out -/
def TelQ (σ : TS) (t : List SLine) (p : Nat) (h : List (List Int)) (fi : Nat → List (List Int)) (m : Nat → Option Int) (n : Int) (rp : Bool) (R : Option (List (List Int))) (r : Option Int) (τ : TS) : Prop := (TFr [15] [6] σ τ ∧ RSame (fun k => 287 ≤ k ∧ k < 388) σ τ) ∧ match R with
  | none => r = some 4
  | some o1 => r = some 0 ∧ TA (t, p, h, o1, fi, m, n, rp) τ
theorem T_tells (hA : TA (t, p, h, o, fi, m, n, rp) σ) (hM : MadeIs σ xs) (hl : xs.length < 90000) : TM (d + 2) tk_tells [.inr 0] σ (TelQ σ t p h fi m n rp (sTell o xs)) := by
  obtain ⟨h15, ho, hor⟩ := hA.outR
  unfold sTell
  refine TM.of rfl rfl ?_
  (repeat (first | (refine TW.getf rfl rfl rfl (fun _ => ?_)) | (refine TW.pl rfl rfl ?_)))
  refine TW.br rfl rfl (by first | omega | exact b2i_R _ | exact ⟨b2i_R _, by omega⟩) (fun q1 => ?_) (fun q1 => ?_)
  · rw [if_pos (Or.inl (by omega))]
    (repeat (first | (refine TW.getf rfl rfl rfl (fun _ => ?_)) | (refine TW.pl rfl rfl ?_)))
    exact TW.iret rfl ⟨⟨TFr.rf, fun _ _ => rfl⟩, rfl⟩
  (repeat (first | (refine TW.getf rfl rfl rfl (fun _ => ?_)) | (refine TW.pl rfl rfl ?_)))
  refine TW.cv1 rfl rfl rfl (Nat.le_of_ble_eq_true rfl) (T_lays' (row := 287 + o.length) (by omega) (by omega) hM (by omega)) ?_
  rintro _ τ1 ⟨rfl, hr1, hn1, hs1, hf1⟩
  refine TW.br rfl rfl (by first | omega | exact b2i_R _ | exact ⟨b2i_R _, by omega⟩) (fun q2 => ?_) (fun q2 => ?_)
  · have h30 : xs.length ≤ 30 := of_decide_eq_true (b2i_1 q2)
    rw [if_neg (by omega)]
    have h15' : τ1.1 15 = o.length := (hf1.1 15 (by decide)).trans h15
    (repeat (first | (refine TW.getf rfl rfl rfl (fun _ => ?_)) | (refine TW.pl rfl rfl ?_)))
    refine TW.putf rfl rfl (by omega) ?_
    (repeat (first | (refine TW.getf rfl rfl rfl (fun _ => ?_)) | (refine TW.pl rfl rfl ?_)))
    have hf2 : TFr [15] [6] σ (ts1 τ1 15 (τ1.1 15 + 1)) := (hf1.mono (by decide) (by decide)).ts1 (by decide)
    have hs2 : RSame (fun k => 287 ≤ k ∧ k < 388) σ (ts1 τ1 15 (τ1.1 15 + 1)) := fun i hi => hs1 i (fun z => hi (by omega))
    refine TW.iret rfl ⟨⟨hf2, hs2⟩, rfl, hA.out ⟨?_, ?_, fun k hk => ?_⟩ hf2 hs2 (by decide) (by decide)⟩
    · rw [ts1_eq]; simp; omega
    · simp; omega
    · refine RowIs.ts1 ?_
      simp at hk
      by_cases e : k < o.length
      · rw [getD_apl e]; exact (hor k e).same hs1 (by omega)
      · rw [show k = o.length + 0 by omega, getD_app9]; exact hr1 h30
  · have h30 : ¬ xs.length ≤ 30 := of_decide_eq_false (b2i_0 q2)
    rw [if_pos (Or.inr (by omega))]
    (repeat (first | (refine TW.getf rfl rfl rfl (fun _ => ?_)) | (refine TW.pl rfl rfl ?_)))
    exact TW.iret rfl ⟨⟨hf1.mono (by decide) (by decide), fun i hi => hs1 i (fun z => hi (by omega))⟩, rfl⟩
theorem T_moveRight {row b : Nat} {u v : Int} (hr : RowIs σ row ys) (hu : u = row) (hrow : row < 868) (hv : v = b) (hb : b ≤ 1000) : TM (d + 3) tk_moveRight [.inr 0, .inl u, .inl v] σ (fun r τ => r = some (b2i (decide (b + ys.length ≤ 30))) ∧ (b + ys.length ≤ 30 → RowIs τ row (List.replicate b 32 ++ ys)) ∧ RSame (fun k => k = row) σ τ ∧ TFr [20] [6, 19] σ τ) := by
  have hl := hr.2.1
  refine TM.of rfl rfl ?_
  (repeat (first | (refine TW.getf rfl rfl rfl (fun _ => ?_)) | (refine TW.pl rfl rfl ?_)))
  refine TW.putf rfl rfl (by omega) ?_
  (iterate 2 (first | (refine TW.getf rfl rfl rfl (fun _ => ?_)) | (refine TW.pl rfl rfl ?_)))
  have loop : ∀ (q j : Nat) (k : Int) (τ : TS), j + q = b → k = j → MadeIs τ (List.replicate j 32) → TFr [20] [19] σ τ → TW (d + 2) tc_moveRight 5 [some (.inr 0), some (.inl u), some (.inl v), some (.inl k)] [] τ (fun r τ => r = some (b2i (decide (b + ys.length ≤ 30))) ∧ (b + ys.length ≤ 30 → RowIs τ row (List.replicate b 32 ++ ys)) ∧ RSame (fun k => k = row) σ τ ∧ TFr [20] [6, 19] σ τ) := by
    intro q
    induction q with
    | zero =>
      intro j k τ hj hk hm hf
      have hjb : j = b := by omega
      subst hjb
      have hr1 : RowIs τ row ys := hr.fr (hf.2 6 (by decide))
      (repeat (first | (refine TW.getf rfl rfl rfl (fun _ => ?_)) | (refine TW.pl rfl rfl ?_)))
      refine TW.br rfl rfl (by first | omega | exact b2i_R _ | exact ⟨b2i_R _, by omega⟩) (fun q1 => ?_) (fun q1 => ?_)
      · (repeat (first | (refine TW.getf rfl rfl rfl (fun _ => ?_)) | (refine TW.pl rfl rfl ?_)))
        refine TW.cv1 rfl rfl rfl (Nat.le_of_ble_eq_true rfl) (T_lenR hr1 hu hrow) ?_; rintro _ _ ⟨rfl, rfl⟩
        refine TW.cv3 rfl rfl rfl (Nat.le_of_ble_eq_true rfl) (T_makesAll hr1 hu rfl hrow hm (by simp; omega)) ?_
        rintro _ τ1 ⟨rfl, hm1, hf1⟩
        (repeat (first | (refine TW.getf rfl rfl rfl (fun _ => ?_)) | (refine TW.pl rfl rfl ?_)))
        refine TW.cv1 rfl rfl rfl (Nat.le_of_ble_eq_true rfl) (T_lays' hu hrow hm1 (by simp; omega)) ?_
        rintro _ τ2 ⟨rfl, hr2, -, hs2, hf2⟩
        have hln : (List.replicate j (32 : Int) ++ ys).length = j + ys.length := by simp
        rw [hln] at hr2 ⊢
        refine TW.zret rfl ?_ ⟨rfl, hr2, fun i hi => ?_, (hf.mono (fs' := [20]) (as' := [6, 19]) (by decide) (by decide)).trans ((hf1.mono (by decide) (by decide)).trans (hf2.mono (by decide) (by decide)))⟩
        · unfold b2i; split
          · exact Or.inr rfl
          · exact Or.inl rfl
        · rw [hs2 i hi, hf1.2 6 (by decide), hf.2 6 (by decide)]
      · omega
    | succ q ih =>
      intro j k τ hj hk hm hf
      (repeat (first | (refine TW.getf rfl rfl rfl (fun _ => ?_)) | (refine TW.pl rfl rfl ?_)))
      refine TW.br rfl rfl (by first | omega | exact b2i_R _ | exact ⟨b2i_R _, by omega⟩) (fun q1 => ?_) (fun q1 => ?_)
      · omega
      (repeat (first | (refine TW.getf rfl rfl rfl (fun _ => ?_)) | (refine TW.pl rfl rfl ?_)))
      refine TW.cv1 rfl rfl rfl (Nat.le_of_ble_eq_true rfl) (T_makes hm (by simp; omega) (by decide)) ?_
      rintro _ τ1 ⟨rfl, hm1, hf1⟩
      (iterate 2 (first | (refine TW.getf rfl rfl rfl (fun _ => ?_)) | (refine TW.pl rfl rfl ?_)))
      refine ih (j + 1) (k + 1) τ1 (by omega) (by omega) ?_ (hf.trans hf1)
      rw [List.replicate_succ']
      exact hm1
  exact loop b 0 0 _ (by omega) rfl MadeIs.nil (TFr.rf.ts1 (by decide))
theorem T_moveLeft {row b : Nat} {u v : Int} (hr : RowIs σ row ys) (hu : u = row) (hrow : row < 868) (hv : v = b) (hb : b ≤ 1000) : TM (d + 3) tk_moveLeft [.inr 0, .inl u, .inl v] σ (fun r τ => r = none ∧ RowIs τ row (ys.drop (sBlanks b ys)) ∧ RSame (fun k => k = row) σ τ ∧ TFr [20] [6, 19] σ τ) := by
  have hl := hr.2.1
  refine TM.of rfl rfl ?_
  (iterate 2 (first | (refine TW.getf rfl rfl rfl (fun _ => ?_)) | (refine TW.pl rfl rfl ?_)))
  have fin : ∀ (k : Int) (e : Nat), k = e → e ≤ ys.length → e = sBlanks b ys → TW (d + 2) tc_moveLeft 18 [some (.inr 0), some (.inl u), some (.inl v), some (.inl k)] [] σ (fun r τ => r = none ∧ RowIs τ row (ys.drop (sBlanks b ys)) ∧ RSame (fun k => k = row) σ τ ∧ TFr [20] [6, 19] σ τ) := by
    intro k e hk hel he
    have hr0 : RowIs (ts1 σ 20 0) row ys := hr
    (repeat (first | (refine TW.getf rfl rfl rfl (fun _ => ?_)) | (refine TW.pl rfl rfl ?_)))
    refine TW.putf rfl rfl (by omega) ?_
    (repeat (first | (refine TW.getf rfl rfl rfl (fun _ => ?_)) | (refine TW.pl rfl rfl ?_)))
    refine TW.cv1 rfl rfl rfl (Nat.le_of_ble_eq_true rfl) (T_lenR hr0 hu hrow) ?_; rintro _ _ ⟨rfl, rfl⟩
    subst hu
    refine TW.cv3 rfl rfl rfl (Nat.le_of_ble_eq_true rfl) (T_makesRow hr0 hrow (by omega) MadeIs.nil (by simp)) ?_
    rintro _ τ1 ⟨rfl, hm1, hf1⟩
    rw [List.nil_append, show k.toNat = e by omega, show ((ys.length : Int) - k).toNat = ys.length - e by omega, List.take_of_length_le (by simp)] at hm1
    (repeat (first | (refine TW.getf rfl rfl rfl (fun _ => ?_)) | (refine TW.pl rfl rfl ?_)))
    refine TW.cv1 rfl rfl rfl (Nat.le_of_ble_eq_true rfl) (T_lays' rfl hrow hm1 (by simp; omega)) ?_
    rintro _ τ2 ⟨rfl, hr2, -, hs2, hf2⟩
    (repeat (first | (refine TW.getf rfl rfl rfl (fun _ => ?_)) | (refine TW.pl rfl rfl ?_)))
    have hf0 : TFr [20] [6, 19] σ (ts1 σ 20 0) := TFr.rf.ts1 (by decide)
    refine TW.vret rfl ⟨rfl, ?_, fun i hi => ?_, hf0.trans ((hf1.mono (by decide) (by decide)).trans (hf2.mono (by decide) (by decide)))⟩
    · rw [← he]; exact hr2 (by simp; omega)
    · rw [hs2 i hi, hf1.2 6 (by decide), ts1_2]
  have loop : ∀ (q j : Nat) (k : Int), j + q = b → k = j → j ≤ ys.length → sBlanks b ys = j + sBlanks q (ys.drop j) → TW (d + 2) tc_moveLeft 2 [some (.inr 0), some (.inl u), some (.inl v), some (.inl k)] [] σ (fun r τ => r = none ∧ RowIs τ row (ys.drop (sBlanks b ys)) ∧ RSame (fun k => k = row) σ τ ∧ TFr [20] [6, 19] σ τ) := by
    intro q
    induction q with
    | zero =>
      intro j k hj hk hjl he
      (repeat (first | (refine TW.getf rfl rfl rfl (fun _ => ?_)) | (refine TW.pl rfl rfl ?_)))
      refine TW.br rfl rfl (by first | omega | exact b2i_R _ | exact ⟨b2i_R _, by omega⟩) (fun q1 => ?_) (fun q1 => ?_)
      · exact fin k j hk hjl (by rw [he]; rfl)
      · omega
    | succ q ih =>
      intro j k hj hk hjl he
      (repeat (first | (refine TW.getf rfl rfl rfl (fun _ => ?_)) | (refine TW.pl rfl rfl ?_)))
      refine TW.br rfl rfl (by first | omega | exact b2i_R _ | exact ⟨b2i_R _, by omega⟩) (fun q1 => ?_) (fun q1 => ?_)
      · omega
      (repeat (first | (refine TW.getf rfl rfl rfl (fun _ => ?_)) | (refine TW.pl rfl rfl ?_)))
      refine TW.cv1 rfl rfl rfl (Nat.le_of_ble_eq_true rfl) (T_lenR hr hu hrow) ?_; rintro _ _ ⟨rfl, rfl⟩
      refine TW.br rfl rfl (by first | omega | exact b2i_R _ | exact ⟨b2i_R _, by omega⟩) (fun q2 => ?_) (fun q2 => ?_)
      · have : ys.drop j = [] := List.drop_eq_nil_iff.mpr (by omega)
        rw [this] at he
        exact fin k j hk hjl (by rw [he]; rfl)
      refine TW.wR (fun hR => ?_)
      have hra : inR (ys.getD j 0) := by rw [← hr.2.2 j (by omega)]; exact hR.2 6 _
      have hkn : k.toNat = j := by omega
      rw [dropc (y := 0) (show j < ys.length by omega)] at he
      (repeat (first | (refine TW.getf rfl rfl rfl (fun _ => ?_)) | (refine TW.pl rfl rfl ?_)))
      refine TW.cv2 rfl rfl rfl (Nat.le_of_ble_eq_true rfl) (T_signR hr hu hrow (by omega)) ?_; rintro _ _ ⟨rfl, rfl⟩
      rw [hkn]
      (repeat (first | (refine TW.getf rfl rfl rfl (fun _ => ?_)) | (refine TW.pl rfl rfl ?_)))
      refine TW.br rfl rfl ⟨hra, by decide⟩ (fun q3 => ?_) (fun q3 => ?_)
      · refine fin k j hk hjl ?_
        rw [he]
        show j = j + (if ys.getD j 0 = 32 then sBlanks q (ys.drop (j + 1)) + 1 else 0)
        rw [if_neg q3]; rfl
      · (iterate 2 (first | (refine TW.getf rfl rfl rfl (fun _ => ?_)) | (refine TW.pl rfl rfl ?_)))
        refine ih (j + 1) (k + 1) (by omega) (by omega) (by omega) ?_
        rw [he]
        show j + (if ys.getD j 0 = 32 then sBlanks q (ys.drop (j + 1)) + 1 else 0) = _
        rw [if_pos q3]
        omega
  exact loop b 0 0 (by omega) rfl (Nat.zero_le _) (by rw [Nat.zero_add, List.drop_zero])
theorem T_cutTo {row b : Nat} {u v : Int} (hr : RowIs σ row ys) (hu : u = row) (hrow : row < 868) (hv : v = b) (hb : b ≤ ys.length) : TM (d + 1) tk_cutTo [.inr 0, .inl u, .inl v] σ (fun r τ => r = none ∧ RowIs τ row (ys.take b) ∧ RSame (fun k => k = row) σ τ ∧ TFr [] [6] σ τ) := by
  have hl := hr.2.1
  refine TM.of rfl rfl ?_
  (repeat (first | (refine TW.getf rfl rfl rfl (fun _ => ?_)) | (refine TW.pl rfl rfl ?_)))
  refine TW.iast (n := 26908) rfl rfl rfl (by omega) (by omega) ?_
  refine TW.vret rfl ⟨rfl, ⟨?_, ?_, fun j hj => ?_⟩, fun j hj => ?_, TFr.rf.ts2 (by decide)⟩
  · rw [ts2_at, if_pos (by omega), List.length_take]; omega
  · rw [List.length_take]; omega
  · rw [List.length_take] at hj
    rw [ts2_at, if_neg (by omega), hr.2.2 j (by omega), List.getD_eq_getElem?_getD, List.getD_eq_getElem?_getD, List.getElem?_take_of_lt (by omega)]
  · rw [ts2_at, if_neg (by omega)]
end TRow2
