set_option maxRecDepth 100000
/-! the twin's becomeNew -/
section TNew
variable {d : Nat} {σ τ υ : TS} {pu : List SLine} {m mT : Nat → Option Int} {gone : List Int}
theorem linNo_mem {t : List SLine} {x : Int} : 0 < linNo t x ↔ x ∈ idsOfL t := by
  unfold linNo
  cases h : t.findIdx? (fun q => q.1 == x) with
  | none =>
    rw [List.findIdx?_eq_none_iff] at h
    refine ⟨fun z => absurd z (Nat.lt_irrefl _), fun z => ?_⟩
    obtain ⟨q, hq, e⟩ := List.mem_map.mp z
    have h1 := h q hq
    have e : q.1 = x := e
    rw [e] at h1
    simp at h1
  | some k =>
    refine ⟨fun _ => ?_, fun _ => Nat.succ_pos _⟩
    obtain ⟨hk, h1, -⟩ := List.findIdx?_eq_some_iff_getElem.mp h
    have h1 : t[k].1 = x := by simpa using h1
    rw [← h1]
    exact List.mem_map.mpr ⟨t[k], List.getElem_mem hk, rfl⟩
theorem mark_new {k : Nat} (h2 : m = unmL mT gone) (h3 : ∀ z ∈ gone, z ∉ idsOfL pu) (h4 : ∀ y, m k = some y → y ∈ idsOfL pu) : (mT k = none → m k = none) ∧ ∀ x, mT k = some x → m k = if 0 < linNo pu x then some x else none := by
  subst h2
  refine ⟨fun z => by unfold unmL; rw [z], fun x z => ?_⟩
  have e : unmL mT gone k = if x ∈ gone then none else some x := by unfold unmL; rw [z]
  rw [e] at h4 ⊢
  by_cases hx : x ∈ gone
  · rw [if_pos hx, if_neg (fun w => h3 x hx (linNo_mem.mp w))]
  · rw [if_neg hx] at h4 ⊢
    rw [if_pos (linNo_mem.mpr (h4 x rfl))]
theorem T_becomeNew (hP : PutIs σ pu) (hM : MarksIs σ mT) (h2 : m = unmL mT gone) (h3 : ∀ z ∈ gone, z ∉ idsOfL pu) (h4 : ∀ k y, m k = some y → y ∈ idsOfL pu) : TM (d + 2) tk_becomeNew [.inr 0] σ (fun r τ => r = none ∧ (TFr [12, 16] [6, 7, 10] σ τ ∧ RSame (fun k => k < 41) σ τ) ∧ TextIs τ pu ∧ (τ.1 16) = pu.length ∧ MarksIs τ m) := by
  obtain ⟨h13, h40, hR⟩ := hP
  have marks : ∀ (q i : Nat) (τ : TS), i + q = 5 → TFr [12] [6, 7, 10] σ τ ∧ RSame (fun k => k < 41) σ τ → TextIs τ pu → (∀ k, k < 5 → τ.2 10 k = ((if k < i then m k else mT k)).getD (-1)) → TW (d + 1) tc_becomeNew 30 [some (.inr 0), some (.inl i)] [] τ (fun r τ => r = none ∧ (TFr [12, 16] [6, 7, 10] σ τ ∧ RSame (fun k => k < 41) σ τ) ∧ TextIs τ pu ∧ (τ.1 16) = pu.length ∧ MarksIs τ m) := by
    intro q
    induction q with
    | zero =>
      intro i τ hi hF hT hm
      have h12 : τ.1 12 = pu.length := hT.1
      (repeat (first | (refine TW.getf rfl rfl rfl (fun _ => ?_)) | (refine TW.pl rfl rfl ?_)))
      refine TW.br rfl rfl (by first | omega | exact b2i_R _ | exact ⟨b2i_R _, by omega⟩) (fun c1 => ?_) (fun c1 => ?_)
      · (repeat (first | (refine TW.getf rfl rfl rfl (fun _ => ?_)) | (refine TW.pl rfl rfl ?_)))
        refine TW.putg rfl rfl (by omega) (fun τ1 v1 f1 => ?_)
        refine TW.vret rfl ⟨rfl, ⟨(hF.1.mono (by decide) (by decide)).trans (f1.mono (by decide) (by decide)), fun j hj => by rw [f1.2 6 (by decide)]; exact hF.2 j hj⟩, hT.same f1 (RSame.no f1 (by decide)) (by decide) (by decide) (fun k z => z.elim), by rw [v1, h12], fun k hk => ⟨?_, fun x hx => ?_⟩⟩
        · rw [f1.2 10 (by decide), hm k hk, if_pos (by omega)]
        · have hmn := mark_new (k := k) h2 h3 (h4 k)
          cases hz : mT k with
          | none => rw [hmn.1 hz] at hx; cases hx
          | some y =>
            rw [hmn.2 y hz] at hx
            split at hx
            · cases hx
              exact (hM k hk).2 _ hz
            · cases hx
      · omega
    | succ q ih =>
      intro i τ hi hF hT hm
      have hi5 : i < 5 := by omega
      have hmi : τ.2 10 i = (mT i).getD (-1) := by rw [hm i hi5, if_neg (by omega)]
      have hmn := mark_new (k := i) h2 h3 (h4 i)
      have hit : ((i : Int)).toNat = i := rfl
      have step : ∀ v : Int, v = (m i).getD (-1) → inR v → TW (d + 1) tc_becomeNew 54 [some (.inr 0), some (.inl i)] [.inl v, .inl i, .inr 11] τ (fun r τ => r = none ∧ (TFr [12, 16] [6, 7, 10] σ τ ∧ RSame (fun k => k < 41) σ τ) ∧ TextIs τ pu ∧ (τ.1 16) = pu.length ∧ MarksIs τ m) := by
        intro v hv hvR
        refine TW.iast (n := 5) rfl rfl rfl (by omega) hvR ?_
        have hf : TFr [] [10] τ (ts2 τ 10 ((i : Int).toNat) v) := TFr.rf.ts2 (by decide)
        (iterate 2 (first | (refine TW.getf rfl rfl rfl (fun _ => ?_)) | (refine TW.pl rfl rfl ?_)))
        refine ih (i + 1) _ (by omega) ⟨hF.1.trans (hf.mono (by decide) (by decide)), fun j hj => by rw [hf.2 6 (by decide)]; exact hF.2 j hj⟩ (hT.same hf (RSame.no hf (by decide)) (by decide) (by decide) (fun k z => z.elim)) (fun k hk => ?_)
        rw [ts2_at, hit]
        by_cases e : k = i
        · rw [if_pos e, if_pos (by omega), hv, e]
        · rw [if_neg e, hm k hk]
          by_cases e2 : k < i
          · rw [if_pos e2, if_pos (by omega)]
          · rw [if_neg e2, if_neg (by omega)]
      (repeat (first | (refine TW.getf rfl rfl rfl (fun _ => ?_)) | (refine TW.pl rfl rfl ?_)))
      refine TW.br rfl rfl (by first | omega | exact b2i_R _ | exact ⟨b2i_R _, by omega⟩) (fun c1 => ?_) (fun c1 => ?_)
      · omega
      (repeat (first | (refine TW.getf rfl rfl rfl (fun _ => ?_)) | (refine TW.pl rfl rfl ?_)))
      refine TW.iald (n := 5) rfl rfl rfl (by omega) (fun _ => ?_)
      rw [hit, hmi]
      cases hz : mT i with
      | none =>
        show TW (d + 1) tc_becomeNew _ _ [.inl (-1), .inl i, .inr 11] τ _
        refine TW.br rfl rfl (by first | omega | exact b2i_R _ | exact ⟨b2i_R _, by omega⟩) (fun c2 => ?_) (fun c2 => ?_)
        · (repeat (first | (refine TW.getf rfl rfl rfl (fun _ => ?_)) | (refine TW.pl rfl rfl ?_)))
          exact step (-1) (by rw [hmn.1 hz]; rfl) (by decide)
        · exact absurd c2 (by decide)
      | some x =>
        have hx0 : 0 ≤ x := (hM i hi5).2 x hz
        have hxv : τ.2 10 i = x := by rw [hmi, hz]; rfl
        show TW (d + 1) tc_becomeNew _ _ [.inl x, .inl i, .inr 11] τ _
        have hxR : inR x := by
          rename_i hh
          rw [hit, hxv] at hh
          exact hh
        refine TW.br rfl rfl (by first | omega | exact b2i_R _ | exact ⟨b2i_R _, by omega⟩) (fun c2 => ?_) (fun c2 => ?_)
        · omega
        (repeat (first | (refine TW.getf rfl rfl rfl (fun _ => ?_)) | (refine TW.pl rfl rfl ?_)))
        refine TW.iald (n := 5) rfl rfl rfl (by omega) (fun _ => ?_)
        rw [hit, hxv]
        refine TW.cv1 rfl rfl rfl (Nat.le_of_ble_eq_true rfl) (T_lineWith hT hxR) ?_; rintro _ _ ⟨rfl, rfl⟩
        have hm2 := hmn.2 x hz
        have hlr : linNo pu x ≤ pu.length := linNo_R
        refine TW.br rfl rfl (by first | omega | exact b2i_R _ | exact ⟨b2i_R _, by omega⟩) (fun c3 => ?_) (fun c3 => ?_)
        · (repeat (first | (refine TW.getf rfl rfl rfl (fun _ => ?_)) | (refine TW.pl rfl rfl ?_)))
          exact step (-1) (by rw [hm2, if_neg (by omega)]; rfl) (by decide)
        · (repeat (first | (refine TW.getf rfl rfl rfl (fun _ => ?_)) | (refine TW.pl rfl rfl ?_)))
          refine TW.iald (n := 5) rfl rfl rfl (by omega) (fun _ => ?_)
          rw [hit, hxv]
          (repeat (first | (refine TW.getf rfl rfl rfl (fun _ => ?_)) | (refine TW.pl rfl rfl ?_)))
          exact step x (by rw [hm2, if_pos (by omega)]; rfl) hxR
  have copy : ∀ (q i : Nat) (τ : TS), i + q = pu.length → TFr [12] [6, 7] σ τ ∧ RSame (fun k => k < 41) σ τ → τ.1 12 = pu.length → (∀ k, k < i → RowIs τ k (pu.getD k (0, [])).2 ∧ τ.2 7 k = (pu.getD k (0, [])).1) → TW (d + 1) tc_becomeNew 6 [some (.inr 0), some (.inl i)] [] τ (fun r τ => r = none ∧ (TFr [12, 16] [6, 7, 10] σ τ ∧ RSame (fun k => k < 41) σ τ) ∧ TextIs τ pu ∧ (τ.1 16) = pu.length ∧ MarksIs τ m) := by
    intro q
    induction q with
    | zero =>
      intro i τ hi hF h12 hT
      have h13' : τ.1 13 = pu.length := (hF.1.1 13 (by decide)).trans h13
      (repeat (first | (refine TW.getf rfl rfl rfl (fun _ => ?_)) | (refine TW.pl rfl rfl ?_)))
      refine TW.br rfl rfl (by first | omega | exact b2i_R _ | exact ⟨b2i_R _, by omega⟩) (fun c1 => ?_) (fun c1 => ?_)
      · (iterate 2 (first | (refine TW.getf rfl rfl rfl (fun _ => ?_)) | (refine TW.pl rfl rfl ?_)))
        refine marks 5 0 τ rfl ⟨hF.1.mono (by decide) (by decide), hF.2⟩ ⟨h12, h40, fun k hk => hT k (by omega)⟩ (fun k hk => ?_)
        rw [if_neg (Nat.not_lt_zero _), hF.1.2 10 (by decide)]
        exact (hM k hk).1
      · omega
    | succ q ih =>
      intro i τ hi hF h12 hT
      have h13' : τ.1 13 = pu.length := (hF.1.1 13 (by decide)).trans h13
      have hil : i < pu.length := by omega
      have hit : ((i : Int)).toNat = i := rfl
      obtain ⟨r1, r2⟩ := hR i hil
      have r1' : RowIs τ (41 + i) (pu.getD i (0, [])).2 := r1.same hF.2 (by omega)
      (repeat (first | (refine TW.getf rfl rfl rfl (fun _ => ?_)) | (refine TW.pl rfl rfl ?_)))
      refine TW.br rfl rfl (by first | omega | exact b2i_R _ | exact ⟨b2i_R _, by omega⟩) (fun c1 => ?_) (fun c1 => ?_)
      · omega
      (repeat (first | (refine TW.getf rfl rfl rfl (fun _ => ?_)) | (refine TW.pl rfl rfl ?_)))
      refine TW.cv2 rfl rfl rfl (Nat.le_of_ble_eq_true rfl) (T_cpRow (a := 41 + i) (b := i) r1' (by omega) (by omega) (by omega) (by omega)) ?_
      rintro _ τ1 ⟨rfl, hr1, hs1, hf1⟩
      have e8 : τ1.2 8 i = (pu.getD i (0, [])).1 := by rw [hf1.2 8 (by decide), hF.1.2 8 (by decide)]; exact r2
      (repeat (first | (refine TW.getf rfl rfl rfl (fun _ => ?_)) | (refine TW.pl rfl rfl ?_)))
      refine TW.iald (n := 41) rfl rfl rfl (by omega) (fun _ => ?_)
      refine TW.iast (n := 41) rfl rfl rfl (by omega) (by omega) ?_
      have hf2 : TFr [] [7] τ1 (ts2 τ1 7 ((i : Int).toNat) (τ1.2 8 ((i : Int).toNat))) := TFr.rf.ts2 (by decide)
      (iterate 2 (first | (refine TW.getf rfl rfl rfl (fun _ => ?_)) | (refine TW.pl rfl rfl ?_)))
      refine ih (i + 1) _ (by omega) ⟨(hF.1.trans (hf1.mono (by decide) (by decide))).trans (hf2.mono (by decide) (by decide)), fun j hj => ?_⟩ ((hf2.1 12 (by decide)).trans ((hf1.1 12 (by decide)).trans h12)) (fun k hk => ?_)
      · rw [hf2.2 6 (by decide), hs1 j (fun z => hj (by omega))]
        exact hF.2 j hj
      · rw [ts2_at, hit]
        by_cases e : k = i
        · subst e
          rw [if_pos rfl]
          exact ⟨hr1.fr (hf2.2 6 (by decide)), e8⟩
        · rw [if_neg e, hf1.2 7 (by decide)]
          exact ⟨((hT k (by omega)).1.same hs1 (by omega)).fr (hf2.2 6 (by decide)), (hT k (by omega)).2⟩
  refine TM.of rfl rfl ?_
  (repeat (first | (refine TW.getf rfl rfl rfl (fun _ => ?_)) | (refine TW.pl rfl rfl ?_)))
  refine TW.putg rfl rfl (by omega) (fun τ1 v1 f1 => ?_)
  (iterate 2 (first | (refine TW.getf rfl rfl rfl (fun _ => ?_)) | (refine TW.pl rfl rfl ?_)))
  exact copy pu.length 0 τ1 (by omega) ⟨f1.mono (by decide) (by decide), fun j _ => by rw [f1.2 6 (by decide)]⟩ (by rw [v1, h13]) (fun k hk => absurd hk (Nat.not_lt_zero _))
end TNew
