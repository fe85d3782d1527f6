set_option maxRecDepth 100000
/-! the twin's acts with a work -/
def SaQ (σ : TS) (t : List SLine) (R : Nat ⊕ (WG × BG)) (r : Option Int) (τ : TS) : Prop := SF σ τ ∧ match R with
  | .inl w => r = some (w : Int) ∧ 1 ≤ w ∧ w ≤ 7
  | .inr (W, B) => r = some 0 ∧ TWB τ t W B
/-- what holds of a stream: n0 the next id ahead of it -/
def WS (n0 : Int) (W : WG) (B : BG) : Prop := (idsOfL (allL W)).Nodup ∧ (∀ q ∈ allL W, (0 ≤ q.1 ∧ q.1 < B.2.2.2.2.1) ∧ RowOk q.2) ∧ (∀ r ∈ W.2.2.1, RowOk r) ∧ (∀ k y, B.2.2.2.1 k = some y → y ∈ idsOfL (allL W)) ∧ (0 ≤ n0 ∧ n0 ≤ B.2.2.2.2.1 ∧ B.2.2.2.2.1 ≤ n0 + W.2.2.2.1.length) ∧ (B.1.length ≤ 40 ∧ ∀ r ∈ B.1, RowOk r) ∧ (B.2.1.length ≤ 100 ∧ ∀ r ∈ B.2.1, RowOk r) ∧ (∀ k, (B.2.2.1 k).length ≤ 40 ∧ ∀ r ∈ B.2.2.1 k, RowOk r) ∧ W.2.2.2.1.length ≤ 40 ∧ W.2.2.2.2.length ≤ 40
section TSac
variable {d : Nat} {σ τ : TS} {s l l1 l2 : List Int} {t pu re : List SLine} {du : List (List Int)} {x : SLine} {W : WG} {B : BG} {fs as : List Nat} {rs : List (List Int)} {xs : List Int} {h o : List (List Int)} {fi : Nat → List (List Int)} {m : Nat → Option Int} {n n0 : Int} {rp : Bool} {od : SOrd0}
theorem allL_ids {g : Bool} : idsOfL (allL (x, g, du, pu, re)) = idsOfL pu ++ (if g = true then [] else [x.1]) ++ idsOfL re := by
  unfold allL
  rw [idsOfL_app, idsOfL_app]
  cases g <;> rfl
theorem WS.nn (hw : WS n0 W B) : 0 ≤ B.2.2.2.2.1 ∧ B.2.2.2.2.1 ≤ n0 + 40 := by have := hw.2.2.2.2; omega
theorem WS.work (hw : WS n0 (x, false, du, pu, re) B) : (0 ≤ x.1 ∧ x.1 < B.2.2.2.2.1) ∧ RowOk x.2 := hw.2.1 x (by show x ∈ pu ++ [x] ++ re; simp)
theorem WS.rest {y : SLine} (hw : WS n0 (x, false, du, pu, re) B) (hy : y ∈ re) : (0 ≤ y.1 ∧ y.1 < B.2.2.2.2.1) ∧ RowOk y.2 := hw.2.1 y (List.mem_append_right _ hy)
theorem WS.nod (hw : WS n0 (x, false, du, pu, re) B) : x.1 ∉ idsOfL pu ∧ x.1 ∉ idsOfL re := by
  have h1 := hw.1
  rw [allL_ids, if_neg (by decide), List.append_assoc, List.nodup_append] at h1
  obtain ⟨_, h2, h3⟩ := h1
  refine ⟨fun z => h3 _ z x.1 (by simp) rfl, ?_⟩
  exact (List.nodup_cons.mp h2).1
theorem unmk_unmL {x : Int} {xs : List Int} : unmk (unmL m xs) x = unmL m (x :: xs) := by
  funext k
  unfold unmk unmL
  cases hk : m k with
  | none => simp
  | some y =>
    by_cases e : y = x
    · subst e; by_cases e2 : y ∈ xs <;> simp [e2]
    · by_cases e2 : y ∈ xs <;> simp [e, e2]
theorem MrkIs.grow {is is' : List Int} {n' : Int} (hh : MrkIs σ m is n) (hs : ∀ y ∈ is', y ∈ is ∨ n ≤ y) (hn : n ≤ n') : MrkIs σ m is' n' := by
  obtain ⟨mT, gone, a, b, c⟩ := hh
  refine ⟨mT, gone, a, b, fun z hz => ⟨fun y => ?_, by have := (c z hz).2; omega⟩⟩
  rcases hs z y with w | w
  · exact (c z hz).1 w
  · have := (c z hz).2; omega
theorem MrkIs.gone {is is' : List Int} {y : Int} (hh : MrkIs σ m is n) (hs : ∀ z ∈ is', z ∈ is) (hy : y ∉ is') (hn : y < n) : MrkIs σ (unmk m y) is' n := by
  obtain ⟨mT, gone, a, b, c⟩ := hh
  refine ⟨mT, y :: gone, a, by rw [b, unmk_unmL], fun z hz => ?_⟩
  rcases List.mem_cons.mp hz with w | w
  · rw [w]; exact ⟨hy, hn⟩
  · exact ⟨fun u => (c z w).1 (hs z u), (c z w).2⟩
/-- the state over the whole, as the twin has it -/
theorem TWB.ta (hB : TWB σ t W (h, o, fi, m, n, rp)) : ∃ p mT gone, TA (t, p, h, o, fi, mT, n, rp) σ ∧ m = unmL mT gone ∧ ∀ z ∈ gone, z ∉ idsOfL (allL W) ∧ z < n := by
  obtain ⟨a, b, c, e, f, ⟨mT, gone, g1, g2, g3⟩, i, j⟩ := hB
  obtain ⟨p, hp⟩ := a.2.2.2.2.2
  exact ⟨p, mT, gone, ⟨a.1, hp, f, g1, i, j⟩, g2, g3⟩
theorem MrkIs.of {mT : Nat → Option Int} {gone is : List Int} (h1 : MarksIs σ mT) (h2 : m = unmL mT gone) (h3 : ∀ z ∈ gone, z ∉ is ∧ z < n) : MrkIs σ m is n := ⟨mT, gone, h1, h2, h3⟩
theorem mem_app3 {a b c : List Int} {y : Int} : y ∈ a ++ b ++ c ↔ y ∈ a ∨ y ∈ b ∨ y ∈ c := by simp [or_assoc]
/-- rows were put: the state is the spec's -/
theorem TWB.puts {pu' : List SLine} {g : Bool} {n' : Int} (hB : TWB σ t (x, g, du, pu, re) (h, o, fi, m, n, rp)) (hf : TFr [13, 17, 20] [6, 8, 19] σ τ) (hs : RSame (fun k => (41 ≤ k ∧ k < 82) ∨ k = 431) σ τ) (hP : PutIs τ pu') (hn : (τ.1 17) = n') (hge : n ≤ n') (hid : ∀ y ∈ idsOfL pu', y ∈ idsOfL pu ∨ n ≤ y) : TWB τ t (x, g, du, pu', re) (h, o, fi, m, n', rp) := by
  obtain ⟨a, b, c, e, f, g', i, j⟩ := hB
  refine ⟨a.same hf hs (by decide) (by decide) (fun k z => by omega), hP, c.same hf hs (by decide) (fun k z => by omega), e.same hf hs (by decide) (by omega), ?_, (g'.same (hf.2 10 (by decide))).grow (fun y hy => ?_) hge, hn, (hf.1 44 (by decide)).trans j⟩
  · obtain ⟨⟨f1, f2, f3⟩, ⟨f4, f5, f6⟩, f7⟩ := f
    refine ⟨⟨(hf.1 14 (by decide)).trans f1, f2, f3.same hs (fun k hk z => by have : h.length ≤ 40 := f2; have : k < h.length := hk; omega)⟩, ⟨(hf.1 15 (by decide)).trans f4, f5, f6.same hs (fun k hk z => by have : o.length ≤ 100 := f5; have : k < o.length := hk; omega)⟩, fun k hk => ?_⟩
    obtain ⟨q1, q2, q3⟩ := f7 k hk
    rw [hf.2 11 (by decide)]
    exact ⟨q1, q2, q3.same hs (fun j hj z => by omega)⟩
  · rw [allL_ids] at hy ⊢
    rcases mem_app3.mp hy with z | z | z
    · rcases hid y z with w | w
      · exact Or.inl (mem_app3.mpr (Or.inl w))
      · exact Or.inr w
    · exact Or.inl (mem_app3.mpr (Or.inr (Or.inl z)))
    · exact Or.inl (mem_app3.mpr (Or.inr (Or.inr z)))
theorem ids_mkL {pu : List SLine} {y : Int} (hy : y ∈ idsOfL (pu ++ mkL n rs)) : y ∈ idsOfL pu ∨ n ≤ y := by
  rw [idsOfL_app] at hy
  rcases List.mem_append.mp hy with z | z
  · exact Or.inl z
  · obtain ⟨q, hq, rfl⟩ := List.mem_map.mp z
    exact Or.inr (mem_mkL rs n q hq).1.1
theorem PuQ.sa {g : Bool} {r : Option Int} (hB : TWB σ t (x, g, du, pu, re) (h, o, fi, m, n, rp)) (hq : PuQ σ pu n rs r τ) : SaQ σ t (stPuts (x, g, du, pu, re) (h, o, fi, m, n, rp) rs) r τ := by
  obtain ⟨⟨hf, hs⟩, hq⟩ := hq
  refine ⟨SF.row hf hs (by decide) (by decide) (fun k z => by omega), ?_⟩
  unfold stPuts
  dsimp only
  by_cases h4 : 40 < pu.length + rs.length
  · rw [if_pos h4] at hq ⊢
    exact ⟨hq, by decide, by decide⟩
  · rw [if_neg h4] at hq ⊢
    exact ⟨hq.1, hB.puts hf hs hq.2.1 hq.2.2 (by omega) (fun y hy => ids_mkL hy)⟩
/-- the work goes -/
theorem TWB.goneT (hB : TWB σ t (x, false, du, pu, re) (h, o, fi, m, n, rp)) (hw : WS n0 (x, false, du, pu, re) (h, o, fi, m, n, rp)) : TWB (ts1 σ 70 0) t (x, true, du, pu, re) (h, o, fi, unmk m x.1, n, rp) := by
  have hf : TFr [70] [] σ (ts1 σ 70 0) := TFr.rf.ts1 (by decide)
  have hs : RSame (fun _ => False) σ (ts1 σ 70 0) := fun _ _ => rfl
  obtain ⟨a, b, c, e, f, g, i, j⟩ := hB
  refine ⟨a.same hf hs (by decide) (by decide) (fun k z => z.elim), b.same hf hs (by decide) (by decide) (fun k z => z.elim), c.same hf hs (by decide) (fun k z => z.elim), ⟨ts1_eq, fun z => by cases z⟩, f.same hf hs (by decide) (by decide) (fun k z => z.elim), ?_, (hf.1 17 (by decide)).trans i, (hf.1 44 (by decide)).trans j⟩
  refine MrkIs.gone (g.same rfl) (fun z hz => ?_) ?_ hw.work.1.2
  · rw [allL_ids] at hz ⊢
    rcases mem_app3.mp hz with w | w | w
    · exact mem_app3.mpr (Or.inl w)
    · cases w
    · exact mem_app3.mpr (Or.inr (Or.inr w))
  · rw [allL_ids]
    intro hz
    rcases mem_app3.mp hz with w | w | w
    · exact hw.nod.1 w
    · cases w
    · exact hw.nod.2 w
theorem T_changeWork {x0 : Int} {k : Nat} {b : Bool} (hs : SgnIs σ s) (hB : TWB σ t (x, false, du, pu, re) (h, o, fi, m, n, rp)) (hw : WS n0 (x, false, du, pu, re) (h, o, fi, m, n, rp)) (hx : Sfx s l x0) (hp : pRows k l = .inr (l1, rs)) (hn0 : n0 < 890000) : TM (d + 5) tk_changeWork [.inr 0, .inl x0, .inl (b2i b)] σ (SaQ σ t (if b = true then (match stPuts (x, false, du, pu, re) (h, o, fi, m, n, rp) rs with
    | .inl w => .inl w
    | .inr (W1, B1) => .inr (stGone W1 B1)) else .inr (stGone (x, false, du, pu, re) (h, o, fi, m, n, rp)))) := by
  have hnR := hw.nn
  have hnR : 0 ≤ n ∧ n ≤ n0 + 40 := hnR
  have hG := hB.goneT hw
  have hfG : TFr [70] [] σ (ts1 σ 70 0) := TFr.rf.ts1 (by decide)
  have hsG := hs.fr hfG (by decide) (by decide)
  have hSG : SF σ (ts1 σ 70 0) := SF.fr hfG (by decide) (by decide) (by decide)
  have hrl : rs.length ≤ 1000 := by
    have h1 := pRows_bar rs k l l1 hp
    have h2 : ∀ q : List Int, cBar q ≤ q.length := by
      intro q
      induction q with
      | nil => exact Nat.le_refl _
      | cons a q ih =>
        show (if isChr a = true ∨ a = 124 then (if a = 124 then 1 else 0) + cBar q else 0) ≤ q.length + 1
        split <;> (try split) <;> omega
    have := h2 l
    have := hx.len
    have := hs.2.1
    omega
  refine TM.of rfl rfl ?_
  (repeat (first | (refine TW.getf rfl rfl rfl (fun _ => ?_)) | (refine TW.pl rfl rfl ?_)))
  cases b with
  | false =>
    rw [if_neg (by decide)]
    refine TW.br rfl rfl (by first | omega | exact b2i_R _ | exact ⟨b2i_R _, by omega⟩) (fun q1 => ?_) (fun q1 => ?_)
    · (repeat (first | (refine TW.getf rfl rfl rfl (fun _ => ?_)) | (refine TW.pl rfl rfl ?_)))
      refine TW.putz rfl rfl (Or.inl rfl) ?_
      (repeat (first | (refine TW.getf rfl rfl rfl (fun _ => ?_)) | (refine TW.pl rfl rfl ?_)))
      refine TW.cv2 rfl rfl rfl (Nat.le_of_ble_eq_true rfl) (T_putTold (rs := []) (k := k) (l1 := l1) hsG hG.2.1 hx (Or.inl rfl) rfl hG.2.2.2.2.2.2.1 (by show 0 ≤ n ∧ n < 900000; omega) (by simp)) ?_
      rintro r τ hq
      have hq2 := PuQ.sa hG hq
      obtain ⟨e1, e2⟩ := hq2
      have e0 : stPuts (x, true, du, pu, re) (h, o, fi, unmk m x.1, n, rp) [] = .inr ((x, true, du, pu, re), h, o, fi, unmk m x.1, n, rp) := by
        unfold stPuts
        have : pu.length ≤ 40 := hB.2.1.2.1
        dsimp only
        rw [if_neg (by simp; omega)]
        simp [mkL]
      rw [e0] at e2
      obtain ⟨rfl, e3⟩ := e2
      exact TW.iret rfl ⟨hSG.trans e1, rfl, e3⟩
    · exact absurd rfl q1
  | true =>
    rw [if_pos rfl]
    refine TW.br rfl rfl (by first | omega | exact b2i_R _ | exact ⟨b2i_R _, by omega⟩) (fun q1 => ?_) (fun q1 => ?_)
    · exact absurd q1 (by decide)
    · (repeat (first | (refine TW.getf rfl rfl rfl (fun _ => ?_)) | (refine TW.pl rfl rfl ?_)))
      refine TW.cv1 rfl rfl rfl (Nat.le_of_ble_eq_true rfl) (T_rowsAt hs hx hp) ?_; rintro _ _ ⟨rfl, rfl⟩
      (repeat (first | (refine TW.getf rfl rfl rfl (fun _ => ?_)) | (refine TW.pl rfl rfl ?_)))
      refine TW.putz rfl rfl (Or.inl rfl) ?_
      (repeat (first | (refine TW.getf rfl rfl rfl (fun _ => ?_)) | (refine TW.pl rfl rfl ?_)))
      refine TW.cv2 rfl rfl rfl (Nat.le_of_ble_eq_true rfl) (T_putTold (rs := rs) hsG hG.2.1 hx (Or.inr hp) rfl hG.2.2.2.2.2.2.1 (by show 0 ≤ n ∧ n < 900000; omega) hrl) ?_
      rintro r τ hq
      have hq2 := PuQ.sa hG hq
      obtain ⟨e1, e2⟩ := hq2
      unfold stPuts at e2 ⊢
      dsimp only at e2 ⊢
      by_cases h4 : 40 < pu.length + rs.length
      · rw [if_pos h4] at e2 ⊢
        obtain ⟨rfl, e3⟩ := e2
        exact TW.iret rfl ⟨hSG.trans e1, rfl, e3⟩
      · rw [if_neg h4] at e2 ⊢
        obtain ⟨rfl, e3⟩ := e2
        exact TW.iret rfl ⟨hSG.trans e1, rfl, e3⟩
theorem ResIs.nth {y : SLine} (hh : ResIs σ t (y :: re)) : RowIs σ (t.length - (re.length + 1)) y.2 ∧ σ.2 7 (t.length - (re.length + 1)) = y.1 ∧ σ.1 66 = ((t.length - (re.length + 1) : Nat) : Int) ∧ re.length + 1 ≤ t.length ∧ t.length ≤ 40 ∧ re = t.drop (t.length - re.length) := by
  obtain ⟨a, b, c, e, f, -⟩ := hh
  rw [show (y :: re).length = re.length + 1 from rfl] at c e f
  have hlt : t.length - (re.length + 1) < t.length := by omega
  rw [dropc (y := (0, [])) hlt] at e
  have e1 := (List.cons.inj e).1
  have e2 := (List.cons.inj e).2
  have h1 := a.2.2 _ hlt
  rw [← e1] at h1
  refine ⟨h1.1, h1.2, c, f, a.2.1, ?_⟩
  rw [show t.length - re.length = t.length - (re.length + 1) + 1 by omega]
  exact e2
theorem T_joinNext (hB : TWB σ t (x, false, du, pu, re) (h, o, fi, m, n, rp)) (hw : WS n0 (x, false, du, pu, re) (h, o, fi, m, n, rp)) (hn0 : n0 < 890000) : TM (d + 3) tk_joinNext [.inr 0] σ (SaQ σ t (stJoin (x, false, du, pu, re) (h, o, fi, m, n, rp))) := by
  have hnR : 0 ≤ n ∧ n ≤ n0 + 40 := hw.nn
  obtain ⟨hRes, hPut, hDue, hWrk, hTR, hMrk, hnid, hrp⟩ := hB
  have hRes : ResIs σ t re := hRes
  obtain ⟨hrw, hwid, hwnr⟩ := hWrk.2 rfl
  have hrw : RowIs σ 429 x.2 := hrw
  have h30 := hrw.2.1
  refine TM.of rfl rfl ?_
  cases re with
  | nil =>
    have e66 : σ.1 66 = t.length := by have := hRes.2.2.1; simp at this; exact this
    have e65 : σ.1 65 = t.length := hRes.2.1
    (repeat (first | (refine TW.getf rfl rfl rfl (fun _ => ?_)) | (refine TW.pl rfl rfl ?_)))
    refine TW.br rfl rfl (by first | omega | exact b2i_R _ | exact ⟨b2i_R _, by omega⟩) (fun q1 => ?_) (fun q1 => ?_)
    · omega
    · (repeat (first | (refine TW.getf rfl rfl rfl (fun _ => ?_)) | (refine TW.pl rfl rfl ?_)))
      exact TW.iret rfl ⟨SF.rf, rfl, hRes, hPut, hDue, hWrk, hTR, hMrk, hnid, hrp⟩
  | cons y re =>
    obtain ⟨ry, iy, e66, hle, h40, hdr⟩ := hRes.nth
    have e65 : σ.1 65 = t.length := hRes.2.1
    have hyR := (hw.rest (y := y) List.mem_cons_self).1
    have hyR : 0 ≤ y.1 ∧ y.1 < n := hyR
    unfold stJoin
    dsimp only
    have h0 : RowIs (ts1 σ 20 0) 429 x.2 := hrw
    (repeat (first | (refine TW.getf rfl rfl rfl (fun _ => ?_)) | (refine TW.pl rfl rfl ?_)))
    refine TW.br rfl rfl (by first | omega | exact b2i_R _ | exact ⟨b2i_R _, by omega⟩) (fun q1 => ?_) (fun q1 => ?_)
    · (repeat (first | (refine TW.getf rfl rfl rfl (fun _ => ?_)) | (refine TW.pl rfl rfl ?_)))
      refine TW.putf rfl rfl (by omega) ?_
      (repeat (first | (refine TW.getf rfl rfl rfl (fun _ => ?_)) | (refine TW.pl rfl rfl ?_)))
      refine TW.cv1 rfl rfl rfl (Nat.le_of_ble_eq_true rfl) (T_lenR (row := 429) h0 rfl (by decide)) ?_; rintro _ _ ⟨rfl, rfl⟩
      refine TW.cv3 rfl rfl rfl (Nat.le_of_ble_eq_true rfl) (T_makesAll (row := 429) h0 rfl rfl (by decide) MadeIs.nil (by simp)) ?_
      rintro _ τ1 ⟨rfl, hm1, hf1⟩
      rw [List.nil_append] at hm1
      have ry1 : RowIs τ1 (t.length - (re.length + 1)) y.2 := (RowIs.ts1 ry).fr (hf1.2 6 (by decide))
      have e66' : τ1.1 66 = ((t.length - (re.length + 1) : Nat) : Int) := by rw [hf1.1 66 (by decide), ts1_ne (by decide)]; exact e66
      (repeat (first | (refine TW.getf rfl rfl rfl (fun _ => ?_)) | (refine TW.pl rfl rfl ?_)))
      refine TW.cv1 rfl rfl rfl (Nat.le_of_ble_eq_true rfl) (T_lenR ry1 (by omega) (by omega)) ?_; rintro _ _ ⟨rfl, rfl⟩
      refine TW.cv3 rfl rfl rfl (Nat.le_of_ble_eq_true rfl) (T_makesAll ry1 (by omega) rfl (by omega) hm1 (by omega)) ?_
      rintro _ τ2 ⟨rfl, hm2, hf2⟩
      (repeat (first | (refine TW.getf rfl rfl rfl (fun _ => ?_)) | (refine TW.pl rfl rfl ?_)))
      refine TW.cv1 rfl rfl rfl (Nat.le_of_ble_eq_true rfl) (T_lays' (row := 429) rfl (by decide) hm2 (by have := ry.2.1; rw [List.length_append]; omega)) ?_
      rintro _ τ3 ⟨rfl, hr3, -, hs3, hf3⟩
      have hfT : TFr [20] [6, 19] σ τ3 := ((((TFr.rf.ts1 (by decide) : TFr [20] [19] σ (ts1 σ 20 0)).trans hf1).trans hf2).mono (by decide) (by decide)).trans (hf3.mono (by decide) (by decide))
      have hsT : RSame (fun k => k = 429) σ τ3 := fun i hi => by rw [hs3 i hi, hf2.2 6 (by decide), hf1.2 6 (by decide), ts1_2]
      have hSF : SF σ τ3 := SF.row hfT hsT (by decide) (by decide) (fun k z => by omega)
      refine TW.br rfl rfl (by first | omega | exact b2i_R _ | exact ⟨b2i_R _, by omega⟩) (fun q2 => ?_) (fun q2 => ?_)
      · have hle30 : (x.2 ++ y.2).length ≤ 30 := of_decide_eq_true (b2i_1 q2)
        rw [if_neg (by omega)]
        obtain ⟨mT, gone, m1, m2, m3⟩ := hMrk
        have m1' : MarksIs τ3 mT := m1.fr (hfT.2 10 (by decide))
        have iy' : τ3.2 7 (τ3.1 66).toNat = y.1 := by
          rw [hfT.2 7 (by decide), hfT.1 66 (by decide), e66]
          exact (tix (by omega)).trans iy
        have e663 : τ3.1 66 = ((t.length - (re.length + 1) : Nat) : Int) := (hfT.1 66 (by decide)).trans e66
        (repeat (first | (refine TW.getf rfl rfl rfl (fun _ => ?_)) | (refine TW.pl rfl rfl ?_)))
        refine TW.iald (n := 41) rfl rfl rfl (by omega) (fun _ => ?_)
        rw [iy']
        refine TW.cv1 rfl rfl rfl (Nat.le_of_ble_eq_true rfl) (T_unmark m1' (by omega)) ?_
        rintro _ τ4 ⟨rfl, m4, hf4⟩
        have e664 : τ4.1 66 = ((t.length - (re.length + 1) : Nat) : Int) := (hf4.1 66 (by decide)).trans e663
        (repeat (first | (refine TW.getf rfl rfl rfl (fun _ => ?_)) | (refine TW.pl rfl rfl ?_)))
        refine TW.putf rfl rfl (by omega) ?_
        (repeat (first | (refine TW.getf rfl rfl rfl (fun _ => ?_)) | (refine TW.pl rfl rfl ?_)))
        rw [ts1_eq]
        refine TW.putf rfl rfl (by omega) ?_
        (repeat (first | (refine TW.getf rfl rfl rfl (fun _ => ?_)) | (refine TW.pl rfl rfl ?_)))
        have hf5 : TFr [20, 66, 68] [6, 10, 19] σ (ts1 (ts1 τ4 66 (τ4.1 66 + 1)) 68 (τ4.1 66 + 1)) := (((hfT.mono (by decide) (by decide)).trans (hf4.mono (by decide) (by decide))).ts1 (by decide)).ts1 (by decide)
        have hs5 : RSame (fun k => k = 429) σ (ts1 (ts1 τ4 66 (τ4.1 66 + 1)) 68 (τ4.1 66 + 1)) := fun i hi => by
          rw [ts1_2, ts1_2, hf4.2 6 (by decide)]; exact hsT i hi
        have e665 : (ts1 (ts1 τ4 66 (τ4.1 66 + 1)) 68 (τ4.1 66 + 1)).1 66 = ((t.length - re.length : Nat) : Int) := by rw [ts1_ne (by decide), ts1_eq]; omega
        have e685 : (ts1 (ts1 τ4 66 (τ4.1 66 + 1)) 68 (τ4.1 66 + 1)).1 68 = ((t.length - re.length : Nat) : Int) := by rw [ts1_eq]; omega
        have m5 : MarksIs (ts1 (ts1 τ4 66 (τ4.1 66 + 1)) 68 (τ4.1 66 + 1)) (unmk mT y.1) := m4
        have r5 : RowIs (ts1 (ts1 τ4 66 (τ4.1 66 + 1)) 68 (τ4.1 66 + 1)) 429 (x.2 ++ y.2) := ((hr3 hle30).fr (hf4.2 6 (by decide)))
        generalize ts1 (ts1 τ4 66 (τ4.1 66 + 1)) 68 (τ4.1 66 + 1) = υ at hf5 hs5 e665 e685 m5 r5 ⊢
        refine TW.iret rfl ⟨SF.row hf5 hs5 (by decide) (by decide) (fun k z => by omega), rfl, ⟨hRes.1.same hf5 hs5 (by decide) (by decide) (fun k z => by omega), (hf5.1 65 (by decide)).trans hRes.2.1, e665, hdr, (by show re.length ≤ t.length; omega), hRes.2.2.2.2.2.elim (fun p hp => ⟨p, (hf5.1 16 (by decide)).trans hp⟩)⟩, hPut.same hf5 hs5 (by decide) (by decide) (fun k z => by omega), hDue.same hf5 hs5 (by decide) (fun k z => by omega), ⟨(hf5.1 70 (by decide)).trans hWrk.1, fun _ => ⟨r5, (hf5.1 67 (by decide)).trans hwid, e685⟩⟩, hTR.same hf5 hs5 (by decide) (by decide) (fun k z => Or.inr (by omega)), MrkIs.of m5 (gone := gone) ?_ (fun z hz => ⟨fun u => (m3 z hz).1 ?_, (m3 z hz).2⟩), (hf5.1 17 (by decide)).trans hnid, (hf5.1 44 (by decide)).trans hrp⟩
        · show unmk m y.1 = _
          rw [show m = unmL mT gone from m2, unmk_unmL, unmL_cons]
        · rw [allL_ids] at u ⊢
          rcases mem_app3.mp u with w | w | w
          · exact mem_app3.mpr (Or.inl w)
          · exact mem_app3.mpr (Or.inr (Or.inl w))
          · exact mem_app3.mpr (Or.inr (Or.inr (List.mem_cons_of_mem _ w)))
      · have hle30 : ¬ (x.2 ++ y.2).length ≤ 30 := of_decide_eq_false (b2i_0 q2)
        rw [if_pos (by omega)]
        (repeat (first | (refine TW.getf rfl rfl rfl (fun _ => ?_)) | (refine TW.pl rfl rfl ?_)))
        exact TW.iret rfl ⟨hSF, rfl, by decide, by decide⟩
    · omega
/-- the work's row is another one now -/
theorem TWB.row {r' : List Int} (hB : TWB σ t (x, false, du, pu, re) (h, o, fi, m, n, rp)) (hr : RowIs τ 429 r') (hf : TFr fs as σ τ) (hs : RSame (fun k => k = 429 ∨ k = 431) σ τ) (h1 : ∀ k ∈ [12, 13, 14, 15, 16, 17, 65, 66, 67, 68, 70, 72], k ∉ fs) (h2 : ∀ k ∈ [7, 8, 10, 11], k ∉ as) {b : Bool} (hb : (τ.1 44) = b2i b) : TWB τ t ((x.1, r'), false, du, pu, re) (h, o, fi, m, n, b) := by
  obtain ⟨a, b', c, e, f, g, i, j⟩ := hB
  refine ⟨a.same hf hs (fun k hk => h1 k (by simp at hk ⊢; omega)) (h2 7 (by decide)) (fun k z => by omega), b'.same hf hs (h1 13 (by decide)) (h2 8 (by decide)) (fun k z => by omega), c.same hf hs (h1 72 (by decide)) (fun k z => by omega), ⟨(hf.1 70 (h1 70 (by decide))).trans e.1, fun _ => ⟨hr, (hf.1 67 (h1 67 (by decide))).trans (e.2 rfl).2.1, (hf.1 68 (h1 68 (by decide))).trans (e.2 rfl).2.2⟩⟩, f.same hf hs (fun k hk => h1 k (by simp at hk ⊢; omega)) (h2 11 (by decide)) (fun k z => Or.inr (by omega)), ?_, (hf.1 17 (h1 17 (by decide))).trans i, hb⟩
  have := g.same (hf.2 10 (h2 10 (by decide)))
  rw [allL_ids] at this ⊢
  exact this
/-- rows that are due came -/
theorem TWB.due {du' : List (List Int)} {g : Bool} (hB : TWB σ t (x, g, du, pu, re) (h, o, fi, m, n, rp)) (hD : DueIs τ du') (hf : TFr fs as σ τ) (hs : RSame (fun k => (388 ≤ k ∧ k < 429) ∨ k = 431) σ τ) (h1 : ∀ k ∈ [12, 13, 14, 15, 16, 17, 44, 65, 66, 67, 68, 70], k ∉ fs) (h2 : ∀ k ∈ [7, 8, 10, 11], k ∉ as) : TWB τ t (x, g, du', pu, re) (h, o, fi, m, n, rp) := by
  obtain ⟨a, b', c, e, f, g', i, j⟩ := hB
  exact ⟨a.same hf hs (fun k hk => h1 k (by simp at hk ⊢; omega)) (h2 7 (by decide)) (fun k z => by omega), b'.same hf hs (h1 13 (by decide)) (h2 8 (by decide)) (fun k z => by omega), hD, e.same hf hs (fun k hk => h1 k (by simp at hk ⊢; omega)) (by omega), f.same hf hs (fun k hk => h1 k (by simp at hk ⊢; omega)) (h2 11 (by decide)) (fun k z => Or.inr (by omega)), g'.same (hf.2 10 (h2 10 (by decide))), (hf.1 17 (h1 17 (by decide))).trans i, (hf.1 44 (h1 44 (by decide))).trans j⟩
theorem T_partWork {b : Nat} {v : Int} (hB : TWB σ t (x, false, du, pu, re) (h, o, fi, m, n, rp)) (hv : v = b) (hb : b ≤ 1000) (hdl : du.length < 900000) : TM (d + 3) tk_partWork [.inr 0, .inl v] σ (SaQ σ t (if b < x.2.length then .inr (stRow (stDue (x, false, du, pu, re) [x.2.drop b]) (x.2.take b), h, o, fi, m, n, rp) else .inr ((x, false, du, pu, re), (h, o, fi, m, n, rp)))) := by
  obtain ⟨hrw, hwid, hwnr⟩ := hB.2.2.2.1.2 rfl
  have hrw : RowIs σ 429 x.2 := hrw
  have h30 := hrw.2.1
  refine TM.of rfl rfl ?_
  (repeat (first | (refine TW.getf rfl rfl rfl (fun _ => ?_)) | (refine TW.pl rfl rfl ?_)))
  refine TW.cv1 rfl rfl rfl (Nat.le_of_ble_eq_true rfl) (T_lenR (row := 429) hrw rfl (by decide)) ?_; rintro _ _ ⟨rfl, rfl⟩
  (repeat (first | (refine TW.getf rfl rfl rfl (fun _ => ?_)) | (refine TW.pl rfl rfl ?_)))
  refine TW.br rfl rfl (by first | omega | exact b2i_R _ | exact ⟨b2i_R _, by omega⟩) (fun q1 => ?_) (fun q1 => ?_)
  · rw [if_neg (by omega)]
    (repeat (first | (refine TW.getf rfl rfl rfl (fun _ => ?_)) | (refine TW.pl rfl rfl ?_)))
    exact TW.iret rfl ⟨SF.rf, rfl, hB⟩
  · rw [if_pos (by omega)]
    have h0 : RowIs (ts1 σ 20 0) 429 x.2 := hrw
    (repeat (first | (refine TW.getf rfl rfl rfl (fun _ => ?_)) | (refine TW.pl rfl rfl ?_)))
    refine TW.putf rfl rfl (by omega) ?_
    (repeat (first | (refine TW.getf rfl rfl rfl (fun _ => ?_)) | (refine TW.pl rfl rfl ?_)))
    refine TW.cv1 rfl rfl rfl (Nat.le_of_ble_eq_true rfl) (T_lenR (row := 429) h0 rfl (by decide)) ?_; rintro _ _ ⟨rfl, rfl⟩
    refine TW.cv3 rfl rfl rfl (Nat.le_of_ble_eq_true rfl) (T_makesRow (row := 429) h0 (by decide) (by omega) MadeIs.nil (by simp)) ?_
    rintro _ τ1 ⟨rfl, hm1, hf1⟩
    rw [List.nil_append, show v.toNat = b by omega, show ((x.2.length : Int) - v).toNat = x.2.length - b by omega, List.take_of_length_le (by simp)] at hm1
    (repeat (first | (refine TW.getf rfl rfl rfl (fun _ => ?_)) | (refine TW.pl rfl rfl ?_)))
    refine TW.cv1 rfl rfl rfl (Nat.le_of_ble_eq_true rfl) (T_lays' (row := 431) rfl (by decide) hm1 (by simp; omega)) ?_
    rintro _ τ2 ⟨rfl, hr2, -, hs2, hf2⟩
    have hfT : TFr [20] [6, 19] σ τ2 := (((TFr.rf.ts1 (by decide) : TFr [20] [19] σ (ts1 σ 20 0)).trans hf1).mono (by decide) (by decide)).trans (hf2.mono (by decide) (by decide))
    have hsT : RSame (fun k => k = 431) σ τ2 := fun i hi => by rw [hs2 i hi, hf1.2 6 (by decide), ts1_2]
    have hB2 := hB.asd hfT hsT (by decide) (by decide) (fun k z => by omega)
    (repeat (first | (refine TW.getf rfl rfl rfl (fun _ => ?_)) | (refine TW.pl rfl rfl ?_)))
    refine TW.cv1 rfl rfl rfl (Nat.le_of_ble_eq_true rfl) (T_dueR (row := 431) hB2.2.2.1 (hr2 (by simp; omega)) rfl (by decide) (by show du.length < 1000000; omega)) ?_
    rintro _ τ3 ⟨rfl, hD3, hs3, hf3⟩
    have hB3 := hB2.due hD3 hf3 (fun i hi => hs3 i (fun z => hi (Or.inl z))) (by decide) (by decide)
    have hrw3 : RowIs τ3 429 x.2 := (hB3.2.2.2.1.2 rfl).1
    (repeat (first | (refine TW.getf rfl rfl rfl (fun _ => ?_)) | (refine TW.pl rfl rfl ?_)))
    refine TW.cv2 rfl rfl rfl (Nat.le_of_ble_eq_true rfl) (T_cutTo (row := 429) (b := b) hrw3 rfl (by decide) hv (by omega)) ?_
    rintro _ τ4 ⟨rfl, hr4, hs4, hf4⟩
    (repeat (first | (refine TW.getf rfl rfl rfl (fun _ => ?_)) | (refine TW.pl rfl rfl ?_)))
    refine TW.iret rfl ⟨(SF.row hfT hsT (by decide) (by decide) (fun k z => by omega)).trans ((SF.row hf3 hs3 (by decide) (by decide) (fun k z => by omega)).trans (SF.row hf4 hs4 (by decide) (by decide) (fun k z => by omega))), rfl, ?_⟩
    exact hB3.row hr4 hf4 (fun i hi => hs4 i (fun z => hi (Or.inl z))) (by decide) (by decide) ((hf4.1 44 (by decide)).trans hB3.2.2.2.2.2.2.2)
theorem T_tellWork {a b : Bool} {nr : Nat} (hB : TWB σ t (x, false, du, pu, re) (h, o, fi, m, n, rp)) (hnr : nr = t.length - re.length) (hab : a = true ∨ b = true) : TM (d + 3) tk_tellWork [.inr 0, .inl (b2i a), .inl (b2i b)] σ (SaQ σ t (stTell (x, false, du, pu, re) (h, o, fi, m, n, rp) (if a = true then (if b = true then sNum nr ++ [32] ++ x.2 else sNum nr) else x.2))) := by
  obtain ⟨hrw, hwid, hwnr⟩ := hB.2.2.2.1.2 rfl
  have hrw : RowIs σ 429 x.2 := hrw
  have hwnr : σ.1 68 = ((t.length - re.length : Nat) : Int) := hwnr
  have h30 := hrw.2.1
  have h40 : t.length ≤ 40 := hB.1.1.2.1
  have hsn : (sNum nr).length ≤ 3 := (sNum_CO (by omega)).2
  refine TM.of rfl rfl ?_
  -- what was made is told
  have tell : ∀ (τ : TS) (zs : List Int), TFr [20] [19] σ τ → MadeIs τ zs → zs.length ≤ 100 → TW (d + 2) tc_tellWork 25 [some (.inr 0), some (.inl (b2i a)), some (.inl (b2i b))] [] τ (SaQ σ t (stTell (x, false, du, pu, re) (h, o, fi, m, n, rp) zs)) := by
    intro τ zs hf hm hz
    have hBτ := hB.fr hf (by decide) (by decide)
    obtain ⟨p, mT, gone, hA, hm1, hm2⟩ := hBτ.ta
    (repeat (first | (refine TW.getf rfl rfl rfl (fun _ => ?_)) | (refine TW.pl rfl rfl ?_)))
    refine TW.cv0 rfl rfl rfl (Nat.le_of_ble_eq_true rfl) (T_tells hA hm (by omega)) ?_
    rintro r τ1 ⟨⟨hf1, hs1⟩, hq⟩
    have hSF : SF σ τ1 := (SF.fr hf (by decide) (by decide) (by decide)).trans (SF.row hf1 hs1 (by decide) (by decide) (fun k z => by omega))
    unfold stTell
    dsimp only
    revert hq
    cases sTell o zs with
    | none =>
      intro hq
      have hq : r = some 4 := hq
      subst hq
      exact TW.iret rfl ⟨hSF, rfl, by decide, by decide⟩
    | some o1 =>
      rintro ⟨rfl, hA1⟩
      obtain ⟨a1, b1, c1, e1, f1, g1, i1, j1⟩ := hBτ
      exact TW.iret rfl ⟨hSF, rfl, a1.same hf1 hs1 (by decide) (by decide) (fun k z => by omega), b1.same hf1 hs1 (by decide) (by decide) (fun k z => by omega), c1.same hf1 hs1 (by decide) (fun k z => by omega), e1.same hf1 hs1 (by decide) (by omega), hA1.2.2.1, g1.same (hf1.2 10 (by decide)), (hf1.1 17 (by decide)).trans i1, (hf1.1 44 (by decide)).trans j1⟩
  have row : ∀ (τ : TS) (zs : List Int), TFr [20] [19] σ τ → MadeIs τ zs → zs.length ≤ 50 → b = true → TW (d + 2) tc_tellWork 16 [some (.inr 0), some (.inl (b2i a)), some (.inl (b2i b))] [] τ (SaQ σ t (stTell (x, false, du, pu, re) (h, o, fi, m, n, rp) (zs ++ x.2))) := by
    intro τ zs hf hm hz hb
    have hrτ : RowIs τ 429 x.2 := hrw.fr (hf.2 6 (by decide))
    subst hb
    (repeat (first | (refine TW.getf rfl rfl rfl (fun _ => ?_)) | (refine TW.pl rfl rfl ?_)))
    refine TW.br rfl rfl (by first | omega | exact b2i_R _ | exact ⟨b2i_R _, by omega⟩) (fun q1 => ?_) (fun q1 => ?_)
    · exact absurd q1 (by decide)
    · (repeat (first | (refine TW.getf rfl rfl rfl (fun _ => ?_)) | (refine TW.pl rfl rfl ?_)))
      refine TW.cv1 rfl rfl rfl (Nat.le_of_ble_eq_true rfl) (T_lenR (row := 429) hrτ rfl (by decide)) ?_; rintro _ _ ⟨rfl, rfl⟩
      refine TW.cv3 rfl rfl rfl (Nat.le_of_ble_eq_true rfl) (T_makesAll (row := 429) hrτ rfl rfl (by decide) hm (by omega)) ?_
      rintro _ τ1 ⟨rfl, hm1, hf1⟩
      exact tell τ1 _ (hf.trans hf1) hm1 (by rw [List.length_append]; omega)
  have f0 : TFr [20] [19] σ (ts1 σ 20 0) := TFr.rf.ts1 (by decide)
  have h680 : (ts1 σ 20 0).1 68 = ((nr : Nat) : Int) := by rw [ts1_ne (by decide), hwnr, hnr]
  (repeat (first | (refine TW.getf rfl rfl rfl (fun _ => ?_)) | (refine TW.pl rfl rfl ?_)))
  refine TW.putf rfl rfl (by omega) ?_
  (repeat (first | (refine TW.getf rfl rfl rfl (fun _ => ?_)) | (refine TW.pl rfl rfl ?_)))
  cases a with
  | false =>
    have hb : b = true := hab.resolve_left (by decide)
    rw [if_neg (by decide)]
    refine TW.br rfl rfl (by first | omega | exact b2i_R _ | exact ⟨b2i_R _, by omega⟩) (fun q1 => ?_) (fun q1 => ?_)
    · (repeat (first | (refine TW.getf rfl rfl rfl (fun _ => ?_)) | (refine TW.pl rfl rfl ?_)))
      refine TW.br rfl rfl (by first | omega | exact b2i_R _ | exact ⟨b2i_R _, by omega⟩) (fun q2 => ?_) (fun q2 => ?_)
      · have := row _ [] f0 MadeIs.nil (by simp) hb
        rw [List.nil_append] at this
        exact this
      · exact absurd rfl q2
    · exact absurd rfl q1
  | true =>
    rw [if_pos rfl]
    refine TW.br rfl rfl (by first | omega | exact b2i_R _ | exact ⟨b2i_R _, by omega⟩) (fun q1 => ?_) (fun q1 => ?_)
    · exact absurd q1 (by decide)
    (repeat (first | (refine TW.getf rfl rfl rfl (fun _ => ?_)) | (refine TW.pl rfl rfl ?_)))
    refine TW.cv1 rfl rfl rfl (Nat.le_of_ble_eq_true rfl) (T_makesNumber h680 (by omega) MadeIs.nil (by simp)) ?_
    rintro _ τ1 ⟨rfl, hm1, hf1⟩
    rw [List.nil_append] at hm1
    (repeat (first | (refine TW.getf rfl rfl rfl (fun _ => ?_)) | (refine TW.pl rfl rfl ?_)))
    refine TW.br rfl rfl (by first | omega | exact b2i_R _ | exact ⟨b2i_R _, by omega⟩) (fun q2 => ?_) (fun q2 => ?_)
    · exact absurd q2 (by decide)
    (repeat (first | (refine TW.getf rfl rfl rfl (fun _ => ?_)) | (refine TW.pl rfl rfl ?_)))
    cases b with
    | false =>
      rw [if_neg (by decide)]
      refine TW.br rfl rfl (by first | omega | exact b2i_R _ | exact ⟨b2i_R _, by omega⟩) (fun q3 => ?_) (fun q3 => ?_)
      · (repeat (first | (refine TW.getf rfl rfl rfl (fun _ => ?_)) | (refine TW.pl rfl rfl ?_)))
        refine TW.br rfl rfl (by first | omega | exact b2i_R _ | exact ⟨b2i_R _, by omega⟩) (fun q4 => ?_) (fun q4 => ?_)
        · exact tell τ1 _ (f0.trans hf1) hm1 (by omega)
        · exact absurd rfl q4
      · exact absurd rfl q3
    | true =>
      rw [if_pos rfl]
      refine TW.br rfl rfl (by first | omega | exact b2i_R _ | exact ⟨b2i_R _, by omega⟩) (fun q3 => ?_) (fun q3 => ?_)
      · exact absurd q3 (by decide)
      (repeat (first | (refine TW.getf rfl rfl rfl (fun _ => ?_)) | (refine TW.pl rfl rfl ?_)))
      refine TW.cv1 rfl rfl rfl (Nat.le_of_ble_eq_true rfl) (T_makes hm1 (by omega) (by decide)) ?_
      rintro _ τ2 ⟨rfl, hm2, hf2⟩
      exact row τ2 _ ((f0.trans hf1).trans hf2) hm2 (by simp; omega) rfl
end TSac
