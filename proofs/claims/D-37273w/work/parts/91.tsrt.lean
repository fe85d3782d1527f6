set_option maxRecDepth 100000
/-! the twin's acts: joining and sorting -/
section TSrt
variable {d : Nat} {σ τ : TS} {s l l1 : List Int} {fs as : List Nat} {pre mid post t : List SLine} {p : Nat} {h o : List (List Int)} {fi : Nat → List (List Int)} {m : Nat → Option Int} {n : Int} {rp : Bool} {rs : List (List Int)} {xs ys : List Int}
theorem segz : seg (pre ++ mid ++ post) (pre.length + 1) (pre.length + mid.length) = mid := by
  unfold seg
  rw [Nat.add_sub_cancel, List.append_assoc, List.drop_left' rfl, List.take_left' (by omega)]
theorem takez : (pre ++ mid ++ post).take (pre.length + 1 - 1) = pre := by rw [Nat.add_sub_cancel, List.append_assoc, List.take_left' rfl]
theorem dropz : (pre ++ mid ++ post).drop (pre.length + mid.length) = post := List.drop_left' (by simp)
theorem segz1 {x : SLine} : seg (pre ++ (x :: mid) ++ post) (pre.length + 1 + 1) (pre.length + 1 + mid.length) = mid := by
  have := segz (pre := pre ++ [x]) (mid := mid) (post := post)
  rw [show pre ++ (x :: mid) ++ post = pre ++ [x] ++ mid ++ post by simp]
  simp only [List.length_append, List.length_cons, List.length_nil] at this
  exact this
theorem idz {x : SLine} : idAt (pre ++ (x :: mid) ++ post) (pre.length + 1 - 1) = x.1 := by
  unfold idAt
  rw [Nat.add_sub_cancel, List.append_assoc, List.cons_append, zget]
theorem T_join {x : SLine} {ms : List SLine} (hA : TA (pre ++ (x :: ms) ++ post, p, h, o, fi, m, n, rp) σ) (hid : ∀ q ∈ ms ++ post, 0 ≤ q.1 ∧ q.1 < 1000000) (hf : (σ.1 42) = pre.length + 1) (hl : (σ.1 43) = pre.length + 1 + ms.length) : TM (d + 4) tk_join [.inr 0] σ (ActF σ (sJoin (pre ++ (x :: ms) ++ post, p, h, o, fi, m, n, rp) (pre.length + 1) (pre.length + 1 + ms.length))) := by
  obtain ⟨h12, h40⟩ := hA.lenM
  simp at h12 h40
  refine TM.of rfl rfl ?_
  have core : ∀ (ms2 post2 : List SLine) (v : Int), pre ++ (x :: ms) ++ post = pre ++ (x :: ms2) ++ post2 → v = pre.length + 1 + ms2.length → (∀ q ∈ ms2, 0 ≤ q.1 ∧ q.1 < 1000000) → TW (d + 3) tc_join 25 [some (.inr 0), none] [.inl v, .inr 0] σ (ActF σ (if 30 < (rowsOfL (x :: ms2)).flatten.length then .inl 4 else .inr (pre ++ (x.1, (rowsOfL (x :: ms2)).flatten) :: post2, pre.length + 1, h, o, fi, unmL m (idsOfL ms2), n, rp))) := by
    intro ms2 post2 v ht hv hid2
    have hlt := congrArg List.length ht
    simp at hlt
    have hA0 : TA (pre ++ (x :: ms2) ++ post2, p, h, o, fi, m, n, rp) (ts1 (ts1 σ 43 v) 20 0) := by
      have := hA.fr (fs := [43, 20]) (as := []) ((TFr.rf.ts1 (k := 43) (v := v) (by decide)).ts1 (k := 20) (v := 0) (by decide)) (by decide) (by decide)
      rw [ht] at this
      exact this
    have f0 : TFr [43, 20] [] σ (ts1 (ts1 σ 43 v) 20 0) := (TFr.rf.ts1 (by decide)).ts1 (by decide)
    have h42 : (ts1 (ts1 σ 43 v) 20 0).1 42 = pre.length + 1 := (f0.1 42 (by decide)).trans hf
    have h43 : (ts1 (ts1 σ 43 v) 20 0).1 43 = v := by rw [ts1_ne (by decide), ts1_eq]
    have hm0 : MadeIs (ts1 (ts1 σ 43 v) 20 0) [] := MadeIs.nil
    refine TW.putf rfl rfl (by omega) ?_
    (repeat (first | (refine TW.getf rfl rfl rfl (fun _ => ?_)) | (refine TW.pl rfl rfl ?_)))
    refine TW.putf rfl rfl (by omega) ?_
    generalize ts1 (ts1 σ 43 v) 20 0 = σ2 at hA0 f0 h42 h43 hm0 ⊢
    (iterate 3 (first | (refine TW.getf rfl rfl rfl (fun _ => ?_)) | (refine TW.pl rfl rfl ?_)))
    have lastl : ∀ (ms' : List SLine) (m' : Nat → Option Int) (k : Int) (τ : TS), k + ms'.length = v → (pre.length : Int) < k → (∀ q ∈ ms', 0 ≤ q.1 ∧ q.1 < 1000000) → TA (pre ++ (x.1, (rowsOfL (x :: ms2)).flatten) :: (ms' ++ post2), p, h, o, fi, m', n, rp) τ → unmL m' (idsOfL ms') = unmL m (idsOfL ms2) → τ.1 42 = pre.length + 1 → τ.1 43 = v → AF σ τ → TW (d + 3) tc_join 58 [some (.inr 0), some (.inl k)] [] τ (ActF σ (.inr (pre ++ (x.1, (rowsOfL (x :: ms2)).flatten) :: post2, pre.length + 1, h, o, fi, unmL m (idsOfL ms2), n, rp))) := by
      intro ms'
      induction ms' with
      | nil =>
        intro m' k τ hk hk0 hi hA' hu h42' h43' hx
        simp at hk
        (repeat (first | (refine TW.getf rfl rfl rfl (fun _ => ?_)) | (refine TW.pl rfl rfl ?_)))
        refine TW.br rfl rfl (by first | omega | exact b2i_R _ | exact ⟨b2i_R _, by omega⟩) (fun q1 => ?_) (fun q1 => ?_)
        · (repeat (first | (refine TW.getf rfl rfl rfl (fun _ => ?_)) | (refine TW.pl rfl rfl ?_)))
          refine TW.putf rfl rfl (by omega) ?_
          (repeat (first | (refine TW.getf rfl rfl rfl (fun _ => ?_)) | (refine TW.pl rfl rfl ?_)))
          refine TW.iret rfl ⟨hx.trans (AF.fr (TFr.rf.ts1 (fs := [16]) (as := []) (by decide)) (by decide) (by decide) (by decide)), rfl, ?_⟩
          rw [← hu, show idsOfL [] = [] from rfl, unmL_nil]
          exact hA'.pres (by omega)
        · omega
      | cons y ms' ih =>
        intro m' k τ hk hk0 hi hA' hu h42' h43' hx
        simp at hk
        rw [show pre ++ (x.1, (rowsOfL (x :: ms2)).flatten) :: ((y :: ms') ++ post2) = (pre ++ [(x.1, (rowsOfL (x :: ms2)).flatten)]) ++ y :: (ms' ++ post2) by simp] at hA'
        (repeat (first | (refine TW.getf rfl rfl rfl (fun _ => ?_)) | (refine TW.pl rfl rfl ?_)))
        refine TW.br rfl rfl (by first | omega | exact b2i_R _ | exact ⟨b2i_R _, by omega⟩) (fun q1 => ?_) (fun q1 => ?_)
        · omega
        (repeat (first | (refine TW.getf rfl rfl rfl (fun _ => ?_)) | (refine TW.pl rfl rfl ?_)))
        refine TW.cv1 rfl rfl rfl (Nat.le_of_ble_eq_true rfl) (T_goesA hA' (hi y List.mem_cons_self) (by simp; omega)) ?_
        rintro _ τ1 ⟨rfl, hA1, hs1, hf1⟩
        (iterate 2 (first | (refine TW.getf rfl rfl rfl (fun _ => ?_)) | (refine TW.pl rfl rfl ?_)))
        refine ih _ (k + 1) τ1 (by omega) (by omega) (fun q hq => hi q (List.mem_cons_of_mem _ hq)) (by rw [List.append_assoc] at hA1; exact hA1) ?_ ((hf1.1 42 (by decide)).trans h42') ((hf1.1 43 (by decide)).trans h43') (hx.trans (AF.row hf1 hs1 (by decide) (by decide) (fun k z => by omega)))
        rw [unmL_cons]
        exact hu
    have firstl : ∀ (ms' P : List SLine) (done : List Int) (k : Int) (τ : TS), pre ++ (x :: ms2) = P ++ ms' → k = P.length + 1 → MadeIs τ done → done ++ (rowsOfL ms').flatten = (rowsOfL (x :: ms2)).flatten → done.length ≤ 30 * P.length → TFr [20] [19] σ2 τ → TW (d + 3) tc_join 32 [some (.inr 0), some (.inl k)] [] τ (ActF σ (if 30 < (rowsOfL (x :: ms2)).flatten.length then .inl 4 else .inr (pre ++ (x.1, (rowsOfL (x :: ms2)).flatten) :: post2, pre.length + 1, h, o, fi, unmL m (idsOfL ms2), n, rp))) := by
      intro ms'
      induction ms' with
      | nil =>
        intro P done k τ hP hk hm he hd hfr
        have hlP := congrArg List.length hP
        simp at hlP
        rw [show (rowsOfL ([] : List SLine)).flatten = [] from rfl, List.append_nil] at he
        have h43' : τ.1 43 = v := (hfr.1 43 (by decide)).trans h43
        have h42' : τ.1 42 = pre.length + 1 := (hfr.1 42 (by decide)).trans h42
        have hA1 := hA0.fr hfr (by decide) (by decide)
        have hx1 : AF σ τ := (AF.fr f0 (by decide) (by decide) (by decide)).trans (AF.fr hfr (by decide) (by decide) (by decide))
        (repeat (first | (refine TW.getf rfl rfl rfl (fun _ => ?_)) | (refine TW.pl rfl rfl ?_)))
        refine TW.br rfl rfl (by first | omega | exact b2i_R _ | exact ⟨b2i_R _, by omega⟩) (fun q1 => ?_) (fun q1 => ?_)
        · (repeat (first | (refine TW.getf rfl rfl rfl (fun _ => ?_)) | (refine TW.pl rfl rfl ?_)))
          refine TW.cs1 rfl rfl rfl (Nat.le_of_ble_eq_true rfl) (T_textRow (k := pre.length) (by omega) (by omega)) ?_; rintro _ _ ⟨rfl, rfl⟩
          refine TW.cv1 rfl rfl rfl (Nat.le_of_ble_eq_true rfl) (T_lays' rfl (by omega) hm (by omega)) ?_
          rintro _ τ1 ⟨rfl, hr1, -, hs1, hf1⟩
          rw [he] at hr1 ⊢
          have hx2 : AF σ τ1 := hx1.trans (AF.row hf1 hs1 (by decide) (by decide) (fun k z => by omega))
          refine TW.br rfl rfl (by first | omega | exact b2i_R _ | exact ⟨b2i_R _, by omega⟩) (fun q2 => ?_) (fun q2 => ?_)
          · have h30 : (rowsOfL (x :: ms2)).flatten.length ≤ 30 := of_decide_eq_true (b2i_1 q2)
            rw [if_neg (by omega)]
            (iterate 3 (first | (refine TW.getf rfl rfl rfl (fun _ => ?_)) | (refine TW.pl rfl rfl ?_)))
            rw [List.append_assoc, List.cons_append] at hA1
            have hA2 := hA1.setRow (hr1 h30) hs1 hf1 (by decide) (by decide)
            exact lastl ms2 m _ τ1 (by rw [hf1.1 42 (by decide), h42']; omega) (by rw [hf1.1 42 (by decide), h42']; omega) hid2 hA2 rfl ((hf1.1 42 (by decide)).trans h42') ((hf1.1 43 (by decide)).trans h43') hx2
          · have h30 : ¬ (rowsOfL (x :: ms2)).flatten.length ≤ 30 := of_decide_eq_false (b2i_0 q2)
            rw [if_pos (by omega)]
            (repeat (first | (refine TW.getf rfl rfl rfl (fun _ => ?_)) | (refine TW.pl rfl rfl ?_)))
            exact TW.iret rfl ⟨hx2, rfl⟩
        · omega
      | cons y ms' ih =>
        intro P done k τ hP hk hm he hd hfr
        have hlP := congrArg List.length hP
        simp at hlP
        have h43' : τ.1 43 = v := (hfr.1 43 (by decide)).trans h43
        have hA1 := hA0.fr hfr (by decide) (by decide)
        rw [hP, List.append_assoc, List.cons_append] at hA1
        obtain ⟨hrow, -, -, -⟩ := hA1.1.atZ
        have h30 := hrow.2.1
        (repeat (first | (refine TW.getf rfl rfl rfl (fun _ => ?_)) | (refine TW.pl rfl rfl ?_)))
        refine TW.br rfl rfl (by first | omega | exact b2i_R _ | exact ⟨b2i_R _, by omega⟩) (fun q1 => ?_) (fun q1 => ?_)
        · omega
        (repeat (first | (refine TW.getf rfl rfl rfl (fun _ => ?_)) | (refine TW.pl rfl rfl ?_)))
        refine TW.cs1 rfl rfl rfl (Nat.le_of_ble_eq_true rfl) (T_textRow (k := P.length) (by omega) (by omega)) ?_; rintro _ _ ⟨rfl, rfl⟩
        (repeat (first | (refine TW.getf rfl rfl rfl (fun _ => ?_)) | (refine TW.pl rfl rfl ?_)))
        refine TW.cs1 rfl rfl rfl (Nat.le_of_ble_eq_true rfl) (T_textRow (k := P.length) (by omega) (by omega)) ?_; rintro _ _ ⟨rfl, rfl⟩
        refine TW.cv1 rfl rfl rfl (Nat.le_of_ble_eq_true rfl) (T_lenR hrow rfl (by omega)) ?_; rintro _ _ ⟨rfl, rfl⟩
        refine TW.cv3 rfl rfl rfl (Nat.le_of_ble_eq_true rfl) (T_makesAll hrow rfl rfl (by omega) hm (by omega)) ?_
        rintro _ τ1 ⟨rfl, hm1, hf1⟩
        (iterate 2 (first | (refine TW.getf rfl rfl rfl (fun _ => ?_)) | (refine TW.pl rfl rfl ?_)))
        refine ih (P ++ [y]) _ (k + 1) τ1 (by rw [hP]; simp) (by simp; omega) hm1 ?_ (by simp; omega) (hfr.trans hf1)
        rw [← he, List.append_assoc]
        rfl
    rw [h42]
    exact firstl (x :: ms2) pre [] _ σ2 rfl (by omega) hm0 rfl (by simp) TFr.rf
  have spec : ∀ (ms2 post2 : List SLine), pre ++ (x :: ms) ++ post = pre ++ (x :: ms2) ++ post2 → (if pre.length + 1 = pre.length + 1 + ms.length then pre.length + 1 + 1 else pre.length + 1 + ms.length) = pre.length + 1 + ms2.length → sJoin (pre ++ (x :: ms) ++ post, p, h, o, fi, m, n, rp) (pre.length + 1) (pre.length + 1 + ms.length) = (if 30 < (rowsOfL (x :: ms2)).flatten.length then .inl 4 else .inr (pre ++ (x.1, (rowsOfL (x :: ms2)).flatten) :: post2, pre.length + 1, h, o, fi, unmL m (idsOfL ms2), n, rp)) := by
    intro ms2 post2 ht he
    have hlt := congrArg List.length ht
    simp at hlt
    unfold sJoin
    dsimp only
    rw [he, ht, if_neg (by simp; omega)]
    have e1 : seg (pre ++ (x :: ms2) ++ post2) (pre.length + 1) (pre.length + 1 + ms2.length) = x :: ms2 := by
      have := segz (pre := pre) (mid := x :: ms2) (post := post2)
      rw [show pre.length + (x :: ms2).length = pre.length + 1 + ms2.length by simp; omega] at this
      exact this
    have e2 : (pre ++ (x :: ms2) ++ post2).drop (pre.length + 1 + ms2.length) = post2 := List.drop_left' (by simp; omega)
    rw [e1, e2, takez, idz, segz1]
  (repeat (first | (refine TW.getf rfl rfl rfl (fun _ => ?_)) | (refine TW.pl rfl rfl ?_)))
  refine TW.br rfl rfl (by first | omega | exact b2i_R _ | exact ⟨b2i_R _, by omega⟩) (fun q1 => ?_) (fun q1 => ?_)
  · have hms : ms ≠ [] := fun z => by rw [z] at hl; simp at hl; omega
    have hms2 : 0 < ms.length := List.length_pos_iff.mpr hms
    rw [spec ms post rfl (if_neg (by omega))]
    (repeat (first | (refine TW.getf rfl rfl rfl (fun _ => ?_)) | (refine TW.pl rfl rfl ?_)))
    refine TW.br rfl rfl (by first | omega | exact b2i_R _ | exact ⟨b2i_R _, by omega⟩) (fun q2 => ?_) (fun q2 => ?_)
    · (repeat (first | (refine TW.getf rfl rfl rfl (fun _ => ?_)) | (refine TW.pl rfl rfl ?_)))
      rw [hl]
      exact core ms post _ rfl rfl (fun q hq => hid q (List.mem_append_left _ hq))
    · omega
  · have hms : ms = [] := List.length_eq_zero_iff.mp (by omega)
    subst hms
    simp at hl h12 h40
    (repeat (first | (refine TW.getf rfl rfl rfl (fun _ => ?_)) | (refine TW.pl rfl rfl ?_)))
    refine TW.br rfl rfl (by first | omega | exact b2i_R _ | exact ⟨b2i_R _, by omega⟩) (fun q2 => ?_) (fun q2 => ?_)
    · have hps : post ≠ [] := fun z => by subst z; simp at h12; omega
      obtain ⟨y, post2, rfl⟩ := List.exists_cons_of_ne_nil hps
      have ht : pre ++ [x] ++ y :: post2 = pre ++ (x :: [y]) ++ post2 := by simp
      rw [spec [y] post2 ht (by simp)]
      (repeat (first | (refine TW.getf rfl rfl rfl (fun _ => ?_)) | (refine TW.pl rfl rfl ?_)))
      refine TW.br rfl rfl (by first | omega | exact b2i_R _ | exact ⟨b2i_R _, by omega⟩) (fun q3 => ?_) (fun q3 => ?_)
      · omega
      · (repeat (first | (refine TW.getf rfl rfl rfl (fun _ => ?_)) | (refine TW.pl rfl rfl ?_)))
        rw [hf]
        exact core [y] post2 _ ht (by simp) (fun q hq => hid q (by simp at hq ⊢; exact Or.inl hq))
    · have hps : post = [] := List.length_eq_zero_iff.mp (by omega)
      subst hps
      have e0 : sJoin (pre ++ [x] ++ [], p, h, o, fi, m, n, rp) (pre.length + 1) (pre.length + 1 + ([] : List SLine).length) = .inl 1 := by
        unfold sJoin
        dsimp only
        rw [if_pos (by simp)]
      rw [e0]
      (repeat (first | (refine TW.getf rfl rfl rfl (fun _ => ?_)) | (refine TW.pl rfl rfl ?_)))
      exact TW.iret rfl ⟨AF.rf, rfl⟩
theorem sCmp_anti : ∀ (xs ys : List Int), sCmp xs ys = - sCmp ys xs := by
  intro xs
  induction xs with
  | nil =>
    intro ys
    cases ys with
    | nil => rfl
    | cons y ys => rfl
  | cons x xs ih =>
    intro ys
    cases ys with
    | nil => unfold sCmp; omega
    | cons y ys =>
      show (if x = y then sCmp xs ys else x - y) = -(if y = x then sCmp ys xs else y - x)
      by_cases e : x = y
      · rw [if_pos e, if_pos e.symm]; exact ih ys
      · rw [if_neg e, if_neg (fun z => e z.symm)]; omega
theorem T_compare {a b c : Nat} {u v w : Int} (hu : u = a) (hv : v = b) (hw : w = c) (ha : RowIs σ a xs) (hb : RowIs σ b ys) (ha8 : a < 868) (hb8 : b < 868) (hc : c ≤ 1000) : TE (d + 2) tk_compare [.inr 0, .inl u, .inl v, .inl w] σ (some (sCmp (xs.drop c) (ys.drop c))) σ := by
  subst hu hv hw
  have hla := ha.2.1
  have hlb := hb.2.1
  refine TM.of rfl rfl ?_
  (iterate 2 (first | (refine TW.getf rfl rfl rfl (fun _ => ?_)) | (refine TW.pl rfl rfl ?_)))
  have stop : ∀ (j : Nat) (k : Int), k = j → sCmp (xs.drop c) (ys.drop c) = sCmp (xs.drop j) (ys.drop j) → (j < xs.length → j < ys.length → xs.getD j 0 ≠ ys.getD j 0) → j ≤ 1000 → TW (d + 1) tc_compare 23 [some (.inr 0), some (.inl a), some (.inl b), some (.inl c), some (.inl k), none, none] [] σ (fun r' σ' => some (sCmp (xs.drop c) (ys.drop c)) = r' ∧ σ = σ') := by
    intro j k hk he hst hj
    have hkn : k.toNat = j := by omega
    rw [he]
    have own : ∀ (x : Int), (x = if j < xs.length then xs.getD j 0 else 0) → TW (d + 1) tc_compare 34 [some (.inr 0), some (.inl a), some (.inl b), some (.inl c), some (.inl k), none, none] [.inl x] σ (fun r' σ' => some (sCmp (xs.drop j) (ys.drop j)) = r' ∧ σ = σ') := by
      intro x hx
      have its : ∀ (y : Int), (y = if j < ys.length then ys.getD j 0 else 0) → TW (d + 1) tc_compare 46 [some (.inr 0), some (.inl a), some (.inl b), some (.inl c), some (.inl k), some (.inl x), none] [.inl y] σ (fun r' σ' => some (sCmp (xs.drop j) (ys.drop j)) = r' ∧ σ = σ') := by
        intro y hy
        (repeat (first | (refine TW.getf rfl rfl rfl (fun _ => ?_)) | (refine TW.pl rfl rfl ?_)))
        refine TW.iret rfl ⟨?_, rfl⟩
        congr 1
        rw [hx, hy]
        by_cases e1 : j < xs.length
        · rw [if_pos e1, dropc (y := 0) e1]
          by_cases e2 : j < ys.length
          · rw [if_pos e2, dropc (y := 0) e2]
            show (if xs.getD j 0 = ys.getD j 0 then _ else xs.getD j 0 - ys.getD j 0) = _
            rw [if_neg (hst e1 e2)]
          · rw [if_neg e2, List.drop_eq_nil_iff.mpr (by omega : ys.length ≤ j)]
            show xs.getD j 0 = _
            omega
        · rw [if_neg e1, List.drop_eq_nil_iff.mpr (by omega : xs.length ≤ j)]
          by_cases e2 : j < ys.length
          · rw [if_pos e2, dropc (y := 0) e2]
            show - ys.getD j 0 = _
            omega
          · rw [if_neg e2, List.drop_eq_nil_iff.mpr (by omega : ys.length ≤ j)]
            rfl
      (repeat (first | (refine TW.getf rfl rfl rfl (fun _ => ?_)) | (refine TW.pl rfl rfl ?_)))
      refine TW.cv1 rfl rfl rfl (Nat.le_of_ble_eq_true rfl) (T_lenR hb rfl hb8) ?_; rintro _ _ ⟨rfl, rfl⟩
      refine TW.br rfl rfl (by first | omega | exact b2i_R _ | exact ⟨b2i_R _, by omega⟩) (fun q1 => ?_) (fun q1 => ?_)
      · (iterate 1 (first | (refine TW.getf rfl rfl rfl (fun _ => ?_)) | (refine TW.pl rfl rfl ?_)))
        exact its 0 (by rw [if_neg (by omega)])
      · (repeat (first | (refine TW.getf rfl rfl rfl (fun _ => ?_)) | (refine TW.pl rfl rfl ?_)))
        refine TW.cv2 rfl rfl rfl (Nat.le_of_ble_eq_true rfl) (T_signR hb rfl hb8 (by omega)) ?_; rintro _ _ ⟨rfl, rfl⟩
        rw [hkn]
        (iterate 1 (first | (refine TW.getf rfl rfl rfl (fun _ => ?_)) | (refine TW.pl rfl rfl ?_)))
        exact its _ (by rw [if_pos (by omega)])
    (repeat (first | (refine TW.getf rfl rfl rfl (fun _ => ?_)) | (refine TW.pl rfl rfl ?_)))
    refine TW.cv1 rfl rfl rfl (Nat.le_of_ble_eq_true rfl) (T_lenR ha rfl ha8) ?_; rintro _ _ ⟨rfl, rfl⟩
    refine TW.br rfl rfl (by first | omega | exact b2i_R _ | exact ⟨b2i_R _, by omega⟩) (fun q1 => ?_) (fun q1 => ?_)
    · (iterate 1 (first | (refine TW.getf rfl rfl rfl (fun _ => ?_)) | (refine TW.pl rfl rfl ?_)))
      exact own 0 (by rw [if_neg (by omega)])
    · (repeat (first | (refine TW.getf rfl rfl rfl (fun _ => ?_)) | (refine TW.pl rfl rfl ?_)))
      refine TW.cv2 rfl rfl rfl (Nat.le_of_ble_eq_true rfl) (T_signR ha rfl ha8 (by omega)) ?_; rintro _ _ ⟨rfl, rfl⟩
      rw [hkn]
      (iterate 1 (first | (refine TW.getf rfl rfl rfl (fun _ => ?_)) | (refine TW.pl rfl rfl ?_)))
      exact own _ (by rw [if_pos (by omega)])
  have loop : ∀ (q j : Nat) (k : Int), k = j → xs.length ≤ j + q → j ≤ 1000 → (0 < q → j < 1000) → sCmp (xs.drop c) (ys.drop c) = sCmp (xs.drop j) (ys.drop j) → TW (d + 1) tc_compare 2 [some (.inr 0), some (.inl a), some (.inl b), some (.inl c), some (.inl k), none, none] [] σ (fun r' σ' => some (sCmp (xs.drop c) (ys.drop c)) = r' ∧ σ = σ') := by
    intro q
    induction q with
    | zero =>
      intro j k hk hj hj2 _ he
      (repeat (first | (refine TW.getf rfl rfl rfl (fun _ => ?_)) | (refine TW.pl rfl rfl ?_)))
      refine TW.cv1 rfl rfl rfl (Nat.le_of_ble_eq_true rfl) (T_lenR ha rfl ha8) ?_; rintro _ _ ⟨rfl, rfl⟩
      refine TW.br rfl rfl (by first | omega | exact b2i_R _ | exact ⟨b2i_R _, by omega⟩) (fun q1 => ?_) (fun q1 => ?_)
      · exact stop j k hk he (fun z => by omega) hj2
      · omega
    | succ q ih =>
      intro j k hk hj hj2 hj3 he
      have hkn : k.toNat = j := by omega
      refine TW.wR (fun hR => ?_)
      (repeat (first | (refine TW.getf rfl rfl rfl (fun _ => ?_)) | (refine TW.pl rfl rfl ?_)))
      refine TW.cv1 rfl rfl rfl (Nat.le_of_ble_eq_true rfl) (T_lenR ha rfl ha8) ?_; rintro _ _ ⟨rfl, rfl⟩
      refine TW.br rfl rfl (by first | omega | exact b2i_R _ | exact ⟨b2i_R _, by omega⟩) (fun q1 => ?_) (fun q1 => ?_)
      · exact stop j k hk he (fun z => by omega) hj2
      (repeat (first | (refine TW.getf rfl rfl rfl (fun _ => ?_)) | (refine TW.pl rfl rfl ?_)))
      refine TW.cv1 rfl rfl rfl (Nat.le_of_ble_eq_true rfl) (T_lenR hb rfl hb8) ?_; rintro _ _ ⟨rfl, rfl⟩
      refine TW.br rfl rfl (by first | omega | exact b2i_R _ | exact ⟨b2i_R _, by omega⟩) (fun q2 => ?_) (fun q2 => ?_)
      · exact stop j k hk he (fun _ z => by omega) hj2
      have hra : inR (xs.getD j 0) := by rw [← ha.2.2 j (by omega)]; exact hR.2 6 _
      have hrb : inR (ys.getD j 0) := by rw [← hb.2.2 j (by omega)]; exact hR.2 6 _
      (repeat (first | (refine TW.getf rfl rfl rfl (fun _ => ?_)) | (refine TW.pl rfl rfl ?_)))
      refine TW.cv2 rfl rfl rfl (Nat.le_of_ble_eq_true rfl) (T_signR ha rfl ha8 (by omega)) ?_; rintro _ _ ⟨rfl, rfl⟩
      (repeat (first | (refine TW.getf rfl rfl rfl (fun _ => ?_)) | (refine TW.pl rfl rfl ?_)))
      refine TW.cv2 rfl rfl rfl (Nat.le_of_ble_eq_true rfl) (T_signR hb rfl hb8 (by omega)) ?_; rintro _ _ ⟨rfl, rfl⟩
      rw [hkn]
      refine TW.br rfl rfl ⟨hra, hrb⟩ (fun q3 => ?_) (fun q3 => ?_)
      · exact stop j k hk he (fun _ _ => q3) hj2
      · (iterate 2 (first | (refine TW.getf rfl rfl rfl (fun _ => ?_)) | (refine TW.pl rfl rfl ?_)))
        refine ih (j + 1) (k + 1) (by omega) (by omega) (by omega) (by omega) ?_
        rw [he, dropc (y := 0) (show j < xs.length by omega), dropc (y := 0) (show j < ys.length by omega)]
        show (if xs.getD j 0 = ys.getD j 0 then sCmp (xs.drop (j + 1)) (ys.drop (j + 1)) else _) = _
        rw [if_pos q3]
  by_cases hcl : xs.length ≤ c
  · exact loop 0 c c rfl (by omega) hc (fun z => absurd z (Nat.lt_irrefl _)) rfl
  · exact loop (xs.length - c) c c rfl (by omega) hc (fun _ => by omega) rfl
theorem sCmp_R : ∀ (xs ys : List Int), (∀ c ∈ xs, 32 ≤ c ∧ c ≤ 126) → (∀ c ∈ ys, 32 ≤ c ∧ c ≤ 126) → -126 ≤ sCmp xs ys ∧ sCmp xs ys ≤ 126 := by
  intro xs
  induction xs with
  | nil =>
    intro ys h1 h2
    cases ys with
    | nil => exact ⟨by decide, by decide⟩
    | cons y ys => have := h2 y List.mem_cons_self; unfold sCmp; omega
  | cons x xs ih =>
    intro ys h1 h2
    have hx := h1 x List.mem_cons_self
    cases ys with
    | nil => unfold sCmp; omega
    | cons y ys =>
      have hy := h2 y List.mem_cons_self
      show -126 ≤ (if x = y then sCmp xs ys else x - y) ∧ (if x = y then sCmp xs ys else x - y) ≤ 126
      split
      · exact ih ys (fun c hc => h1 c (List.mem_cons_of_mem _ hc)) (fun c hc => h2 c (List.mem_cons_of_mem _ hc))
      · omega
theorem T_sort {od : SOrd0} {c : Nat} {w : Int} {up : Bool} (hact : if up = true then oAct od = 111 else ¬ oAct od = 111) (hnum : oNum od = c) (hA : TA (pre ++ mid ++ post, p, h, o, fi, m, n, rp) σ) (hne : mid ≠ []) (hok : ∀ q ∈ mid, RowOk q.2) (hf : (σ.1 42) = pre.length + 1) (hl : (σ.1 43) = pre.length + mid.length) (hw : w = c) (hc : c ≤ 1000) : TM (d + 3) tk_sort [.inr 0, .inl w, .inl (b2i up)] σ (ActQ σ (.inr (pre ++ sSortL od mid ++ post, pre.length + mid.length, h, o, fi, m, n, rp))) := by
  obtain ⟨h12, h40⟩ := hA.lenM
  have hcn : (oNum od).toNat = c := by omega
  refine TM.of rfl rfl ?_
  (iterate 5 (first | (refine TW.getf rfl rfl rfl (fun _ => ?_)) | (refine TW.pl rfl rfl ?_)))
  have outer : ∀ (rest acc : List SLine) (k : Int) (o4 o5 : Option TV) (τ : TS), acc ≠ [] → TA (pre ++ acc.reverse ++ (rest ++ post), p, h, o, fi, m, n, rp) τ → k = pre.length + acc.length + 1 → acc.length + rest.length = mid.length → (∀ q ∈ acc, RowOk q.2) → (∀ q ∈ rest, RowOk q.2) → TFr [] [6, 7] σ τ → RSame (fun k => k < 41 ∨ k = 429) σ τ → TW (d + 2) tc_sort 5 [some (.inr 0), some (.inl w), some (.inl (b2i up)), some (.inl k), o4, o5] [] τ (ActQ σ (.inr (pre ++ (rest.foldl (fun acc x => sInsR od x acc) acc).reverse ++ post, pre.length + mid.length, h, o, fi, m, n, rp))) := by
    intro rest
    induction rest with
    | nil =>
      intro acc k o4 o5 τ hacc hA' hk hlen hoa hor hfr hs
      have h43 : τ.1 43 = pre.length + mid.length := (hfr.1 43 (by decide)).trans hl
      simp at hlen
      (repeat (first | (refine TW.getf rfl rfl rfl (fun _ => ?_)) | (refine TW.pl rfl rfl ?_)))
      refine TW.br rfl rfl (by first | omega | exact b2i_R _ | exact ⟨b2i_R _, by omega⟩) (fun q1 => ?_) (fun q1 => ?_)
      · (repeat (first | (refine TW.getf rfl rfl rfl (fun _ => ?_)) | (refine TW.pl rfl rfl ?_)))
        refine TW.putf rfl rfl (by omega) ?_
        (repeat (first | (refine TW.getf rfl rfl rfl (fun _ => ?_)) | (refine TW.pl rfl rfl ?_)))
        exact TW.iret rfl ⟨AX.row ((hfr.mono (fs' := [16]) (as' := [6, 7]) (by decide) (by decide)).ts1 (by decide)) hs.t1 (by decide) (by decide) (fun k z => by omega), rfl, hA'.pres (by omega)⟩
      · omega
    | cons x rest ih =>
      intro acc k o4 o5 τ hacc hA' hk hlen hoa hor hfr hs
      have h42 : τ.1 42 = pre.length + 1 := (hfr.1 42 (by decide)).trans hf
      have h43 : τ.1 43 = pre.length + mid.length := (hfr.1 43 (by decide)).trans hl
      simp at hlen
      have hA2 := hA'
      rw [List.cons_append] at hA2
      obtain ⟨hrow, hidx, -, hr40⟩ := hA2.1.atZ
      rw [show (pre ++ acc.reverse).length = pre.length + acc.length by simp] at hrow hidx hr40
      simp at hr40
      have hxok := hor x List.mem_cons_self
      have hrok : ∀ q ∈ rest, RowOk q.2 := fun q hq => hor q (List.mem_cons_of_mem _ hq)
      show TW (d + 2) tc_sort 5 [some (.inr 0), some (.inl w), some (.inl (b2i up)), some (.inl k), o4, o5] [] τ (ActQ σ (.inr (pre ++ (rest.foldl (fun acc x => sInsR od x acc) (sInsR od x acc)).reverse ++ post, pre.length + mid.length, h, o, fi, m, n, rp)))
      (repeat (first | (refine TW.getf rfl rfl rfl (fun _ => ?_)) | (refine TW.pl rfl rfl ?_)))
      refine TW.br rfl rfl (by first | omega | exact b2i_R _ | exact ⟨b2i_R _, by omega⟩) (fun q1 => ?_) (fun q1 => ?_)
      · omega
      (repeat (first | (refine TW.getf rfl rfl rfl (fun _ => ?_)) | (refine TW.pl rfl rfl ?_)))
      refine TW.cs1 rfl rfl rfl (Nat.le_of_ble_eq_true rfl) (T_textRow (k := pre.length + acc.length) (by omega) (by omega)) ?_; rintro _ _ ⟨rfl, rfl⟩
      (repeat (first | (refine TW.getf rfl rfl rfl (fun _ => ?_)) | (refine TW.pl rfl rfl ?_)))
      refine TW.cv2 rfl rfl rfl (Nat.le_of_ble_eq_true rfl) (T_cpRow (a := pre.length + acc.length) (b := 429) hrow rfl rfl (by omega) (by decide)) ?_
      rintro _ τ1 ⟨rfl, hr1, hs1, hf1⟩
      have hA3 : TA (pre ++ acc.reverse ++ (x :: (rest ++ post)), p, h, o, fi, m, n, rp) τ1 := hA2.rs hf1 hs1 (by decide) (by decide) (fun k z => by omega)
      have eid : τ1.2 7 (k - 1).toNat = x.1 := by
        rw [hf1.2 7 (by decide)]
        exact (tix (by omega)).trans hidx
      refine TW.wR (fun hR => ?_)
      have hxi : inR x.1 := by rw [← eid]; exact hR.2 7 _
      (repeat (first | (refine TW.getf rfl rfl rfl (fun _ => ?_)) | (refine TW.pl rfl rfl ?_)))
      refine TW.iald (n := 41) rfl rfl rfl (by omega) (fun _ => ?_)
      rw [eid]
      (iterate 3 (first | (refine TW.getf rfl rfl rfl (fun _ => ?_)) | (refine TW.pl rfl rfl ?_)))
      have fin : ∀ (ys b1 : List SLine) (hole : SLine) (to : Int) (τ : TS), sInsR od x acc = b1 ++ x :: ys → ys.length + b1.length = acc.length → (∀ q ∈ ys, RowOk q.2) → (∀ q ∈ b1, RowOk q.2) → TA (pre ++ ys.reverse ++ hole :: (b1.reverse ++ (rest ++ post)), p, h, o, fi, m, n, rp) τ → to = pre.length + ys.length + 1 → TFr [] [6, 7] σ τ → RSame (fun k => k < 41 ∨ k = 429) σ τ → RowIs τ 429 x.2 → TW (d + 2) tc_sort 70 [some (.inr 0), some (.inl w), some (.inl (b2i up)), some (.inl k), some (.inl x.1), some (.inl to)] [] τ (ActQ σ (.inr (pre ++ (rest.foldl (fun acc x => sInsR od x acc) (sInsR od x acc)).reverse ++ post, pre.length + mid.length, h, o, fi, m, n, rp))) := by
        intro ys b1 hole to τ hi hlen2 hoy hob hA4 hto hfr4 hs4 hw4
        have hlen3 : (pre ++ ys.reverse).length = pre.length + ys.length := by simp
        (repeat (first | (refine TW.getf rfl rfl rfl (fun _ => ?_)) | (refine TW.pl rfl rfl ?_)))
        refine TW.cs1 rfl rfl rfl (Nat.le_of_ble_eq_true rfl) (T_textRow (k := pre.length + ys.length) (by omega) (by omega)) ?_; rintro _ _ ⟨rfl, rfl⟩
        refine TW.cv2 rfl rfl rfl (Nat.le_of_ble_eq_true rfl) (T_cpRow (a := 429) (b := pre.length + ys.length) hw4 rfl rfl (by decide) (by omega)) ?_
        rintro _ τ5 ⟨rfl, hr5, hs5, hf5⟩
        (repeat (first | (refine TW.getf rfl rfl rfl (fun _ => ?_)) | (refine TW.pl rfl rfl ?_)))
        refine TW.iast (n := 41) rfl rfl rfl (by omega) (by omega) ?_
        (iterate 2 (first | (refine TW.getf rfl rfl rfl (fun _ => ?_)) | (refine TW.pl rfl rfl ?_)))
        have hz : (to - 1).toNat = pre.length + ys.length := by omega
        rw [hz]
        rw [← hlen3] at hr5 hs5 hz ⊢
        have hf6 : TFr [] [6, 7] τ (ts2 τ5 7 (pre ++ ys.reverse).length x.1) := (hf5.mono (by decide) (by decide)).ts2 (by decide)
        have hs6 : RSame (fun k => k = (pre ++ ys.reverse).length) τ (ts2 τ5 7 (pre ++ ys.reverse).length x.1) := fun i hi => by rw [ts2_ne (by decide)]; exact hs5 i hi
        have hT := hA4.1.setZ (x' := x) (τ := ts2 τ5 7 (pre ++ ys.reverse).length x.1) (hf5.1 12 (by decide)) (RowIs.ts2 hr5 (by decide)) (by rw [ts2_at, if_pos rfl]) hs6 (fun i hi => by rw [ts2_at, if_neg hi, hf5.2 7 (by decide)])
        have hA5 := hA4.upd hT (hA4.2.2.2.1.fr (hf6.2 10 (by decide))) ((hf6.1 17 (by decide)).trans hA4.2.2.2.2.1) hf6 hs6 (by decide) (by decide) (fun k z => Or.inl (by omega))
        rw [hi]
        refine ih (b1 ++ x :: ys) (k + 1) _ _ _ (by simp) ?_ (by simp; omega) (by simp; omega) ?_ hrok (hfr4.trans hf6) (fun i hi => (hs6 i (fun z => hi (Or.inl (by omega)))).trans (hs4 i hi))
        · rw [show pre ++ (b1 ++ x :: ys).reverse ++ (rest ++ post) = pre ++ ys.reverse ++ x :: (b1.reverse ++ (rest ++ post)) by simp]
          exact hA5
        · intro q hq
          rcases List.mem_append.mp hq with hq | hq
          · exact hob q hq
          · rcases List.mem_cons.mp hq with hq | hq
            · rw [hq]; exact hxok
            · exact hoy q hq
      have inner : ∀ (ys b1 : List SLine) (hole : SLine) (to : Int) (τ : TS), sInsR od x acc = b1 ++ sInsR od x ys → ys.length + b1.length = acc.length → (∀ q ∈ ys, RowOk q.2) → (∀ q ∈ b1, RowOk q.2) → TA (pre ++ ys.reverse ++ hole :: (b1.reverse ++ (rest ++ post)), p, h, o, fi, m, n, rp) τ → to = pre.length + ys.length + 1 → TFr [] [6, 7] σ τ → RSame (fun k => k < 41 ∨ k = 429) σ τ → RowIs τ 429 x.2 → TW (d + 2) tc_sort 23 [some (.inr 0), some (.inl w), some (.inl (b2i up)), some (.inl k), some (.inl x.1), some (.inl to)] [] τ (ActQ σ (.inr (pre ++ (rest.foldl (fun acc x => sInsR od x acc) (sInsR od x acc)).reverse ++ post, pre.length + mid.length, h, o, fi, m, n, rp))) := by
        intro ys
        induction ys with
        | nil =>
          intro b1 hole to τ hi hlen2 hoy hob hA4 hto hfr4 hs4 hw4
          have h42' : τ.1 42 = pre.length + 1 := (hfr4.1 42 (by decide)).trans hf
          simp at hto
          (repeat (first | (refine TW.getf rfl rfl rfl (fun _ => ?_)) | (refine TW.pl rfl rfl ?_)))
          refine TW.br rfl rfl (by first | omega | exact b2i_R _ | exact ⟨b2i_R _, by omega⟩) (fun q2 => ?_) (fun q2 => ?_)
          · exact fin [] b1 hole to τ hi hlen2 hoy hob hA4 (by simp; exact hto) hfr4 hs4 hw4
          · omega
        | cons y ys ihi =>
          intro b1 hole to τ hi hlen2 hoy hob hA4 hto hfr4 hs4 hw4
          have h42' : τ.1 42 = pre.length + 1 := (hfr4.1 42 (by decide)).trans hf
          have hyok := hoy y List.mem_cons_self
          have hlen3 : (pre ++ ys.reverse).length = pre.length + ys.length := by simp
          simp at hto hlen2
          have e0 : sInsR od x (y :: ys) = if sBef od x y = true then y :: sInsR od x ys else x :: y :: ys := rfl
          have hA5 := hA4
          rw [show pre ++ (y :: ys).reverse ++ hole :: (b1.reverse ++ (rest ++ post)) = (pre ++ ys.reverse) ++ y :: (hole :: (b1.reverse ++ (rest ++ post))) by simp] at hA5
          obtain ⟨hry, hidy, -, -⟩ := hA5.1.atZ
          rw [hlen3] at hry hidy
          have hcR := sCmp_R (y.2.drop c) (x.2.drop c) (fun q hq => hyok.2 q (List.mem_of_mem_drop hq)) (fun q hq => hxok.2 q (List.mem_of_mem_drop hq))
          have hanti := sCmp_anti (x.2.drop c) (y.2.drop c)
          have stay : sBef od x y = false → TW (d + 2) tc_sort 70 [some (.inr 0), some (.inl w), some (.inl (b2i up)), some (.inl k), some (.inl x.1), some (.inl to)] [] τ (ActQ σ (.inr (pre ++ (rest.foldl (fun acc x => sInsR od x acc) (sInsR od x acc)).reverse ++ post, pre.length + mid.length, h, o, fi, m, n, rp))) := by
            intro hb
            rw [e0, if_neg (by rw [hb]; decide)] at hi
            exact fin (y :: ys) b1 hole to τ hi (by simp; omega) hoy hob hA4 (by simp; omega) hfr4 hs4 hw4
          have goes : sBef od x y = true → TW (d + 2) tc_sort 48 [some (.inr 0), some (.inl w), some (.inl (b2i up)), some (.inl k), some (.inl x.1), some (.inl to)] [] τ (ActQ σ (.inr (pre ++ (rest.foldl (fun acc x => sInsR od x acc) (sInsR od x acc)).reverse ++ post, pre.length + mid.length, h, o, fi, m, n, rp))) := by
            intro hb
            rw [e0, if_pos hb] at hi
            (repeat (first | (refine TW.getf rfl rfl rfl (fun _ => ?_)) | (refine TW.pl rfl rfl ?_)))
            refine TW.cs1 rfl rfl rfl (Nat.le_of_ble_eq_true rfl) (T_textRow (k := pre.length + ys.length) (by omega) (by omega)) ?_; rintro _ _ ⟨rfl, rfl⟩
            (repeat (first | (refine TW.getf rfl rfl rfl (fun _ => ?_)) | (refine TW.pl rfl rfl ?_)))
            refine TW.cs1 rfl rfl rfl (Nat.le_of_ble_eq_true rfl) (T_textRow (k := pre.length + ys.length + 1) (by omega) (by omega)) ?_; rintro _ _ ⟨rfl, rfl⟩
            refine TW.cv2 rfl rfl rfl (Nat.le_of_ble_eq_true rfl) (T_cpRow (a := pre.length + ys.length) (b := pre.length + ys.length + 1) hry rfl rfl (by omega) (by omega)) ?_
            rintro _ τ5 ⟨rfl, hr5, hs5, hf5⟩
            have eid5 : τ5.2 7 (to - 2).toNat = y.1 := by
              rw [hf5.2 7 (by decide)]
              exact (tix (by omega)).trans hidy
            (repeat (first | (refine TW.getf rfl rfl rfl (fun _ => ?_)) | (refine TW.pl rfl rfl ?_)))
            refine TW.iald (n := 41) rfl rfl rfl (by omega) (fun _ => ?_)
            refine TW.iast (n := 41) rfl rfl rfl (by omega) (by omega) ?_
            rw [eid5]
            (iterate 2 (first | (refine TW.getf rfl rfl rfl (fun _ => ?_)) | (refine TW.pl rfl rfl ?_)))
            have hlen4 : (pre ++ ys.reverse ++ [y]).length = pre.length + ys.length + 1 := by simp; omega
            have hz : (to - 1).toNat = pre.length + ys.length + 1 := by omega
            rw [hz]
            rw [← hlen4] at hr5 hs5 ⊢
            have hf6 : TFr [] [6, 7] τ (ts2 τ5 7 (pre ++ ys.reverse ++ [y]).length y.1) := (hf5.mono (by decide) (by decide)).ts2 (by decide)
            have hs6 : RSame (fun k => k = (pre ++ ys.reverse ++ [y]).length) τ (ts2 τ5 7 (pre ++ ys.reverse ++ [y]).length y.1) := fun i hi => by rw [ts2_ne (by decide)]; exact hs5 i hi
            rw [show (pre ++ ys.reverse) ++ y :: (hole :: (b1.reverse ++ (rest ++ post))) = (pre ++ ys.reverse ++ [y]) ++ hole :: (b1.reverse ++ (rest ++ post)) by simp] at hA5
            have hT := hA5.1.setZ (x' := y) (τ := ts2 τ5 7 (pre ++ ys.reverse ++ [y]).length y.1) (hf5.1 12 (by decide)) (RowIs.ts2 hr5 (by decide)) (by rw [ts2_at, if_pos rfl]) hs6 (fun i hi => by rw [ts2_at, if_neg hi, hf5.2 7 (by decide)])
            have hA6 := hA5.upd hT (hA5.2.2.2.1.fr (hf6.2 10 (by decide))) ((hf6.1 17 (by decide)).trans hA5.2.2.2.2.1) hf6 hs6 (by decide) (by decide) (fun k z => Or.inl (by omega))
            refine ihi (b1 ++ [y]) y (to - 1) _ (by rw [hi]; simp) (by simp; omega) (fun q hq => hoy q (List.mem_cons_of_mem _ hq)) ?_ ?_ (by omega) (hfr4.trans hf6) (fun i hi => (hs6 i (fun z => hi (Or.inl (by omega)))).trans (hs4 i hi)) (hw4.same hs6 (by omega))
            · intro q hq
              rcases List.mem_append.mp hq with hq | hq
              · exact hob q hq
              · rw [List.mem_singleton.mp hq]; exact hyok
            · rw [show pre ++ ys.reverse ++ y :: ((b1 ++ [y]).reverse ++ (rest ++ post)) = pre ++ ys.reverse ++ [y] ++ y :: (b1.reverse ++ (rest ++ post)) by simp]
              exact hA6
          (repeat (first | (refine TW.getf rfl rfl rfl (fun _ => ?_)) | (refine TW.pl rfl rfl ?_)))
          refine TW.br rfl rfl (by first | omega | exact b2i_R _ | exact ⟨b2i_R _, by omega⟩) (fun q2 => ?_) (fun q2 => ?_)
          · omega
          (repeat (first | (refine TW.getf rfl rfl rfl (fun _ => ?_)) | (refine TW.pl rfl rfl ?_)))
          cases up with
          | false =>
            have hact : ¬ oAct od = 111 := hact
            refine TW.br rfl rfl (by first | omega | exact b2i_R _ | exact ⟨b2i_R _, by omega⟩) (fun q3 => ?_) (fun q3 => ?_)
            · (repeat (first | (refine TW.getf rfl rfl rfl (fun _ => ?_)) | (refine TW.pl rfl rfl ?_)))
              refine TW.cs1 rfl rfl rfl (Nat.le_of_ble_eq_true rfl) (T_textRow (k := pre.length + ys.length) (by omega) (by omega)) ?_; rintro _ _ ⟨rfl, rfl⟩
              (repeat (first | (refine TW.getf rfl rfl rfl (fun _ => ?_)) | (refine TW.pl rfl rfl ?_)))
              refine TW.cv3 rfl rfl rfl (Nat.le_of_ble_eq_true rfl) (T_compare rfl rfl hw hry hw4 (by omega) (by decide) hc) ?_; rintro _ _ ⟨rfl, rfl⟩
              refine TW.br rfl rfl (by first | omega | exact b2i_R _ | exact ⟨b2i_R _, by omega⟩) (fun q4 => ?_) (fun q4 => ?_)
              · exact stay (by unfold sBef; rw [if_neg hact, hcn]; exact decide_eq_false (by omega))
              · exact goes (by unfold sBef; rw [if_neg hact, hcn]; exact decide_eq_true (by omega))
            · exact absurd rfl q3
          | true =>
            have hact : oAct od = 111 := hact
            refine TW.br rfl rfl (by first | omega | exact b2i_R _ | exact ⟨b2i_R _, by omega⟩) (fun q3 => ?_) (fun q3 => ?_)
            · exact absurd q3 (by decide)
            · (repeat (first | (refine TW.getf rfl rfl rfl (fun _ => ?_)) | (refine TW.pl rfl rfl ?_)))
              refine TW.cs1 rfl rfl rfl (Nat.le_of_ble_eq_true rfl) (T_textRow (k := pre.length + ys.length) (by omega) (by omega)) ?_; rintro _ _ ⟨rfl, rfl⟩
              (repeat (first | (refine TW.getf rfl rfl rfl (fun _ => ?_)) | (refine TW.pl rfl rfl ?_)))
              refine TW.cv3 rfl rfl rfl (Nat.le_of_ble_eq_true rfl) (T_compare rfl rfl hw hry hw4 (by omega) (by decide) hc) ?_; rintro _ _ ⟨rfl, rfl⟩
              refine TW.br rfl rfl (by first | omega | exact b2i_R _ | exact ⟨b2i_R _, by omega⟩) (fun q4 => ?_) (fun q4 => ?_)
              · exact stay (by unfold sBef; rw [if_pos hact, hcn]; exact decide_eq_false (by omega))
              · (iterate 1 (first | (refine TW.getf rfl rfl rfl (fun _ => ?_)) | (refine TW.pl rfl rfl ?_)))
                exact goes (by unfold sBef; rw [if_pos hact, hcn]; exact decide_eq_true (by omega))
      exact inner acc [] x k τ1 rfl (by simp) hoa (by simp) hA3 (by omega) (hfr.trans (hf1.mono (by decide) (by decide))) (fun i hi => (hs1 i (fun z => hi (Or.inr z))).trans (hs i hi)) hr1
  cases mid with
  | nil => exact absurd rfl hne
  | cons x ms =>
    have := outer ms [x] (σ.1 42 + 1) none none σ (by simp) (by rw [show pre ++ [x].reverse ++ (ms ++ post) = pre ++ (x :: ms) ++ post by simp]; exact hA) (by simp; omega) (by simp; omega) (fun q hq => hok q (by rw [List.mem_singleton.mp hq]; exact List.mem_cons_self)) (fun q hq => hok q (List.mem_cons_of_mem _ hq)) TFr.rf (fun _ _ => rfl)
    exact this
end TSrt
