-- C
set_option maxRecDepth 100000
/-! LINEORDERS: a stream: play -/
section PY
variable {d n m q oq ar pq dq a b f y cap cap' cap1 c i k B B' B1 B2 st tu p Bm tm j : Nat} {S S' S1 S2 : BS} {K : Nat → Nat} {V F : Nat → Prop} {o : SOrd} {la la1 : Int → Nat} {t pu re pu1 re1 rs : List SLine} {x z x1 : SLine} {g g1 ov rp run bb : Bool} {du rows du1 du' : List (List Int)} {W W1 : WG} {G G1 : BG} {ru : Nat → Nat → RG} {r : Option Nat} {v nn n0 : Int} {h9 o9 : List (List Int)} {fi : Nat → List (List Int)} {mk : Nat → Option Int} {od : SOrd0} {w : Nat} {rg : GO} {xs : List (Option Nat)} {os : List SOrd} {OA : Nat → Nat → Nat} {qi : Nat → Nat} {ys : Nat → List (Option Nat)} {Sg Sg0 Sg1 Sg2 : SS} {Q : GO → BS → Prop} {Mm : Int → Option Nat}
theorem lab_R (h : OgK o ∧ OrdOk o) (z : oAct o.1 = 58) : 0 ≤ oNum o.1 ∧ oNum o.1 < 100 := by
  obtain ⟨hog, ⟨l, l2, hp, h48⟩⟩ := h
  have := hog.2.1
  have h58 : 0 ≤ oNum o.1 := by
    obtain ⟨l1, w, h1, h2, h3, h4⟩ := pOrder_out hp h48
    rcases h4 with ⟨g1, _⟩ | ⟨g1, g2⟩
    · rw [← h2.2.2.2, z] at g1; exact absurd g1 (by decide)
    · have g3 := (pAct_out g2).2.2.2.2.2.2.2.2.2.1 (by rw [← h2.2.2.2]; exact z)
      have g4 : 65 ≤ hd l1.tail ∧ hd l1.tail ≤ 90 := of_decide_eq_true g3.1
      rw [g3.2]; omega
  exact ⟨h58, by omega⟩
theorem OdK.wr (h : OdK od) (hp : OdP od) : wrOk od := fun z => ⟨h.1.1, hp.2.2.2 (Or.inr z)⟩
theorem OgK.wr (h : OgK o) : wrOk o.1 ∧ ∀ od ∈ o.2, isGc (oAct o.1) = true → wrOk od := by
  obtain ⟨_, _, _, hc⟩ := h
  refine ⟨fun z => ?_, fun od ho hg => ?_⟩
  · rcases hc with ⟨y, _⟩ | ⟨_, y⟩ | ⟨_, _, y1, y2⟩
    · rw [z] at y; exact absurd y (by decide)
    · rw [z] at y; exact absurd y (by decide)
    · exact OdK.wr y1 y2 z
  · have hg : sIsG (oAct o.1) = true := hg
    rcases hc with ⟨_, _, _, _, y⟩ | ⟨y, _⟩ | ⟨y, _⟩
    · exact OdK.wr (y od ho).1 (y od ho).2
    · rw [hg] at y; cases y
    · rw [hg] at y; cases y
theorem stEmpty1_or {fi : Nat → List (List Int)} (k : Nat) : stEmpty1 fi od k = fi k ∨ stEmpty1 fi od k = [] := by
  unfold stEmpty1
  split
  · unfold fup
    split
    · exact Or.inr rfl
    · exact Or.inl rfl
  · exact Or.inl rfl
theorem stEmptyL_or : ∀ (ods : List SOrd0) (fi : Nat → List (List Int)) (k : Nat), ods.foldl stEmpty1 fi k = fi k ∨ ods.foldl stEmpty1 fi k = [] := by
  intro ods
  induction ods with
  | nil => intro fi k; exact Or.inl rfl
  | cons od ods ih =>
    intro fi k
    rcases ih (stEmpty1 fi od) k with z | z
    · rcases stEmpty1_or (od := od) (fi := fi) k with y | y
      · exact Or.inl (z.trans y)
      · exact Or.inr (z.trans y)
    · exact Or.inr z
theorem stEmpty_or : ∀ (os : List SOrd) (fi : Nat → List (List Int)) (k : Nat), stEmpty os fi k = fi k ∨ stEmpty os fi k = [] := by
  intro os
  unfold stEmpty
  induction os with
  | nil => intro fi k; exact Or.inl rfl
  | cons o os ih =>
    intro fi k
    rcases ih (o.2.foldl stEmpty1 (stEmpty1 fi o.1)) k with z | z
    · rcases stEmptyL_or o.2 (stEmpty1 fi o.1) k with y | y
      · rcases stEmpty1_or (od := o.1) (fi := fi) k with u | u
        · exact Or.inl (z.trans (y.trans u))
        · exact Or.inr (z.trans (y.trans u))
      · exact Or.inr (z.trans y)
    · exact Or.inr z
theorem wsp_em (hw : WSP n0 W (h9, o9, fi, mk, nn, rp)) : WSP n0 W (h9, o9, stEmpty os fi, mk, nn, rp) := by
  obtain ⟨a1, a2, a3, a4, a5, a6, a7, a8, a9⟩ := hw
  refine ⟨a1, a2, a3, a4, a5, a6, a7, fun k => ?_, a9⟩
  rcases stEmpty_or os fi k with z | z
  · show (stEmpty os fi k).length ≤ 40 ∧ ∀ r ∈ stEmpty os fi k, RowOk r
    rw [z]; exact a8 k
  · show (stEmpty os fi k).length ≤ 40 ∧ ∀ r ∈ stEmpty os fi k, RowOk r
    rw [z]; exact ⟨Nat.zero_le _, fun r hr => by cases hr⟩
theorem L_play (h : StS S K la q oq ar pq dq t (((0, []), true, [], [], t), (h9, o9, fi, mk, nn, rp), 0, 0, false, fun _ _ => (0, false, false)) t cap B) (hk : StK K F q ar pq dq) (hwp : WSP n0 ((0, []), true, [], [], t) (h9, o9, fi, mk, nn, rp)) (h40 : t.length ≤ 40) (hI : OsI S F t.length os (fun _ _ => (0, false, false)) OA xs qi ys oq) (hS : OsS F oq os OA xs qi ys) (hE : OsE S os OA) (hos : ∀ o ∈ os, OgK o ∧ OrdOk o) (hol : os.length ≤ 25) (hil : ∀ o ∈ os, o.2.length ≤ 40) (hcap : cap ≤ 24400) (hn : n0 < 1900000) (hBm : B + 288000 ≤ Bm ∧ Bm ≤ 20000000) : BM (d + 189) gk_X13_play [aR q] S (fun rg S' => match stAll t.length os t.length (((0, []), true, [], [], t), (h9, o9, stEmpty os fi, mk, nn, rp), 0, 0, false, fun _ _ => (0, false, false)) with
    | .inl w => StR S K F q pq dq la nn o9 Bm w rg S'
    | .inr Sg1 => rg = .inl none ∧ ∃ la1, LO S' K la1 (Sg1.1.2.2.2.1, Sg1.1.2.2.2.1.length, Sg1.2.1) Bm ∧ XS K F (WSt q pq dq) S S' ∧ LaE la la1 nn ∧ nn ≤ Sg1.2.1.2.2.2.2.1 ∧ (∃ ex, Sg1.2.1.2.1 = o9 ++ ex) ∧ Ob S' q (oOwn 12) ∧ Fi S' 89 q (Sg1.2.2.1 : Int)) := by
  obtain ⟨hq, h79, h80, h81, h82, h90, har⟩ := id h.1
  have gd : ∀ k (hk : k < os.length), os.getD k noOrd = os[k] := fun k hk => by rw [List.getD_eq_getElem?_getD, List.getElem?_eq_getElem hk]; rfl
  have hnog : ∀ o ∈ os, ¬ isGc (oAct o.1) = true → o.2 = [] := fun o ho hg => by
    obtain ⟨k, hk9, e⟩ := List.getElem_of_mem ho
    have := hE.1 k hk9 (by rw [gd k hk9, e]; exact Bool.eq_false_iff.mpr hg)
    rw [gd k hk9, e] at this
    exact this
  have hwr : ∀ o ∈ os, wrOk o.1 ∧ ∀ od ∈ o.2, wrOk od := fun o ho => by
    obtain ⟨g1, g2⟩ := (hos o ho).1.wr
    refine ⟨g1, fun od hod => ?_⟩
    by_cases hg : isGc (oAct o.1) = true
    · exact g2 od hod hg
    · rw [hnog o ho hg] at hod; cases hod
  refine BM.of rfl rfl rfl ?_
  (repeat (first | (refine BW.pl rfl rfl ?_) | (refine CW.geti rfl rfl (by assumption) rfl rfl (by assumption) (fun _ => ?_)) | (refine CW.getr rfl rfl (by assumption) rfl rfl (by assumption) ?_)))
  refine CW.c2 rfl rfl (by first | exact Or.inl rfl | exact Or.inr (tagO (by assumption) (by rfl) (by rfl)) | exact Or.inr (tagO (AdrIs.ox (by assumption)) (by rfl) (by rfl)) | exact Or.inr (tagO (PatIs.ox (by assumption)) (by rfl) (by rfl)) | exact Or.inr (tagO (Or0.ox (by assumption)) (by rfl) (by rfl))) (by first | exact Or.inl (by decide) | exact Or.inr ⟨_, rfl, by assumption⟩) rfl (L_emptyFiles (d := d + 183) h hk hI hS hE hwr hil (by omega)) ?_
  rintro r S1 ⟨rfl, h1, hX1⟩
  have hI1 := hI.xa hS hk (XS.of hX1)
  obtain ⟨cx, hxs1⟩ := hI1.1
  obtain ⟨hq1, h791, -⟩ := id h1.1
  have hxl := hS.2.1.1
  obtain ⟨p1, hL1⟩ := h1.2.1
  have hL1 : LB S1 K la (idsOfL t) p1 (h9, o9, stEmpty os fi, mk, nn, rp) (B + 41 * os.length + 6 * cap) := hL1
  have htt1 := hL1.tt
  have hq01 : ∀ k, (hk9 : k < os.length) → ∃ mk, xs.getD k none = some mk ∧ Ob S1 mk (oOwn 7) ∧ Fi S1 48 mk (oAct os[k].1) ∧ Fi S1 49 mk (oNum os[k].1) := fun k hk9 => by
    have hv0 : kyG os k 0 := ⟨hk9, Nat.zero_le _⟩
    have hO := (hI1.2.2 k 0 hv0).1
    rw [ord9_0, gd k hk9] at hO
    exact ⟨OA k 0, hS.2.1.2 k hk9, hO.nm⟩
  (repeat (first | (refine BW.pl rfl rfl ?_) | (refine CW.geti rfl rfl (by assumption) rfl rfl (by assumption) (fun _ => ?_)) | (refine CW.getr rfl rfl (by assumption) rfl rfl (by assumption) ?_)))
  refine CW.c1 rfl rfl (by first | exact Or.inl rfl | exact Or.inr (tagO (by assumption) (by rfl) (by rfl)) | exact Or.inr (tagO (AdrIs.ox (by assumption)) (by rfl) (by rfl)) | exact Or.inr (tagO (PatIs.ox (by assumption)) (by rfl) (by rfl)) | exact Or.inr (tagO (Or0.ox (by assumption)) (by rfl) (by rfl))) (by first | exact Or.inl (by decide) | exact Or.inr ⟨_, rfl, by assumption⟩) rfl (L_labelsOf (d := d + 180) hxs1 hxl hq01 (fun o ho z => lab_R (hos o ho) z) (by omega) (by omega)) ?_
  rintro r S2 ⟨tm, Mm, rfl, htm0, htm, hMm, hF2⟩
  have hkt : KoM K tm := hL1.ko htm0
  have hX2 : XF K (fun _ => False) S1 S2 := XF.rf.f0 hF2
  obtain ⟨hq1, h791, h801, h811, h821, h901, har1⟩ := id h1.1
  obtain ⟨mc1, hpq1⟩ := h1.2.2.1
  obtain ⟨xd1, hdq1, -⟩ := h1.2.2.2.1
  have wtm : ¬ WSt q pq dq tm := by
    rintro (z | z | z)
    · rw [z] at htm0; exact absurd (hq1.symm.trans htm0) (oNe rfl)
    · rw [z] at htm0; exact absurd (hpq1.symm.trans htm0) (oNe rfl)
    · rw [z] at htm0; exact absurd (hdq1.symm.trans htm0) (oNe rfl)
  have hL2 := hL1.fr hF2 LoW.no (by omega)
  have h2 := StS.xf (G' := (h9, o9, stEmpty os fi, mk, nn, rp)) (B' := B + 41 * os.length + (21 + 19 * os.length)) h1 hk hX2 ⟨p1, hL2.le (by omega) (by omega)⟩ rfl (fun _ _ z => z)
  have hI2 := hI1.xa hS hk (XS.of hX2)
  have hX02 : XS K F (WSt q pq dq) S S2 := (XS.of hX1).tr (XS.of hX2)
  (iterate 1 (refine BW.pl rfl rfl ?_))
  have hP2 : LpI S2 K F q oq ar pq dq la t os OA xs qi ys n0 nn o9 cap (B + 41 * os.length + (21 + 19 * os.length)) (((0, []), true, [], [], t), (h9, o9, stEmpty os fi, mk, nn, rp), 0, 0, false, fun _ _ => (0, false, false)) S2 := by
    refine ⟨la, cap, ⟨Nat.le_refl _, hcap⟩, ⟨?_, wsp_em hwp, rfl⟩, hI2, XS.rf, LaE.rf, Int.le_refl _, ⟨[], by simp⟩, Nat.zero_le _, by show 0 + t.length ≤ t.length; omega⟩
    have e : B + 41 * os.length + (21 + 19 * os.length) + 240 * 0 + 30 * 0 + 800 * (t.length - t.length) + 0 = B + 41 * os.length + (21 + 19 * os.length) := by omega
    show StS S2 K la q oq ar pq dq t (((0, []), true, [], [], t), (h9, o9, stEmpty os fi, mk, nn, rp), 0, 0, false, fun _ _ => (0, false, false)) t cap (B + 41 * os.length + (21 + 19 * os.length) + 240 * 0 + 30 * 0 + 800 * (t.length - t.length) + 0)
    rw [e]
    exact h2
  refine L_stAll (d := d) (Bm := Bm) hk h40 hS hos hol htm hMm hkt wtm hn (by omega) t.length _ S2 none rfl (Nat.le_refl _) hP2 (fun Sg5 S5 v5 g5 hs h5 => ?_) (fun w rg S5 hs h5 => ?_)
  rotate_left
  · rw [hs]
    exact StR.pre hX02 LaE.rf (Int.le_refl _) ⟨[], by simp⟩ h5
  rw [hs]
  dsimp only
  obtain ⟨la5, cap5, ⟨hc5, hc6⟩, ⟨h5, hwp5, -⟩, -, hX5, hE5, hn5, hex5, hst5, -⟩ := h5
  obtain ⟨⟨x5, gg5, du5, pu5, re5⟩, ⟨h95, o95, fi5, mk5, nn5, rp5⟩, st5, tu5, ov5, ru5⟩ := Sg5
  have hpu5 : pu5.length ≤ 40 := hwp5.2.2.2.2.2.2.2.2.1
  have hst5 : st5 ≤ 400 := hst5
  have hov : (if sOverS ((x5, gg5, du5, pu5, re5), (h95, o95, fi5, mk5, nn5, rp5), st5, tu5, ov5, ru5) = true then 800 else 0) ≤ 800 := by split <;> omega
  obtain ⟨hq5, h795, h805, h815, h825, h905, har5⟩ := id h5.1
  have h895 : Fi S5 89 q (st5 : Int) := h5.2.2.2.2.1.1.2.2.2
  obtain ⟨mcp, hpq5⟩ := h5.2.2.1
  have hpq5 : Ob S5 pq (oLl (lsOf la5 (idsOfL pu5)) mcp) := hpq5
  obtain ⟨p5, hL5⟩ := h5.2.1
  have hL5 : LB S5 K la5 (idsOfL t) p5 (h95, o95, fi5, mk5, nn5, rp5) (B + 280000) := hL5.le (by
    show B + 41 * os.length + (21 + 19 * os.length) + 240 * st5 + 30 * pu5.length + 800 * (t.length - re5.length) + _ + 6 * cap5 ≤ _
    omega) (by omega)
  have hR5 : RowsI S5 la5 nn5 pu5 := RowsI.sub h5.2.2.2.2.2 (fun z hz => List.mem_append_left _ hz)
  have hpn : ∀ x ∈ idsOfL pu5, 0 ≤ x ∧ x < nn5 := fun x hx => by
    obtain ⟨z, hz, e⟩ := List.mem_map.mp hx
    rw [← e]
    exact (hR5 z hz).1
  have hX05 : XS K F (WSt q pq dq) S S5 := hX02.tr hX5
  have hx5 := hL5.obx
  have e35 := hL5.e3
  have htt5 := hL5.tt
  have hal : (lsOf la5 (idsOfL pu5)).length = pu5.length := by rw [lsOf_len, ids_len]
  obtain ⟨mt, hT5⟩ := hL5.text
  (repeat (first | (refine BW.pl rfl rfl ?_) | (refine CW.geti rfl rfl (by assumption) rfl rfl (by assumption) (fun _ => ?_)) | (refine CW.getr rfl rfl (by assumption) rfl rfl (by assumption) ?_)))
  refine CW.c1 rfl rfl (by first | exact Or.inl rfl | exact Or.inr (tagO (by assumption) (by rfl) (by rfl)) | exact Or.inr (tagO (AdrIs.ox (by assumption)) (by rfl) (by rfl)) | exact Or.inr (tagO (PatIs.ox (by assumption)) (by rfl) (by rfl)) | exact Or.inr (tagO (Or0.ox (by assumption)) (by rfl) (by rfl))) (by first | exact Or.inl (by decide) | exact Or.inr ⟨_, rfl, by assumption⟩) rfl (C_llClr (d := d + 187) hT5 (by omega)) ?_
  rintro r S6 ⟨rfl, hT6, hF6⟩
  have hX6 : XF K (fun _ => False) S5 S6 := XF.rf.f1 hF6 (fun _ => hL5.wk (by decide))
  have hL6 : LB S6 K la5 [] p5 (h95, o95, fi5, mk5, nn5, rp5) (B + 280000 + 1) := hL5.setText hF6 LoX.k hT6 (fun x z => by cases z) (by omega)
  have hR6 := hR5.f6 hF6 (W6.one hT5 (oNe rfl) rfl)
  have hq6 := (hX6.ob hq5 hk.2.1.1 (oNe rfl) rfl).1
  have h906 := hX6.fe hq5 hk.2.1.1 (oNe rfl) rfl h905 (by decide)
  have h816 := hX6.fe hq5 hk.2.1.1 (oNe rfl) rfl h815 (by decide)
  have h896 := hX6.fi hq5 hk.2.1.1 (oNe rfl) rfl h895 (by decide)
  have hpq6 := (hX6.ob hpq5 hk.2.1.2.2.1 (oNe rfl) rfl).1
  have hx6 := hL6.obx
  have e36 := hL6.e3
  have htt6 := hL6.tt
  (repeat (first | (refine BW.pl rfl rfl ?_) | (refine CW.geti rfl rfl (by assumption) rfl rfl (by assumption) (fun _ => ?_)) | (refine CW.getr rfl rfl (by assumption) rfl rfl (by assumption) ?_)))
  refine CW.c2 rfl rfl (by first | exact Or.inl rfl | exact Or.inr (tagO (by assumption) (by rfl) (by rfl)) | exact Or.inr (tagO (AdrIs.ox (by assumption)) (by rfl) (by rfl)) | exact Or.inr (tagO (PatIs.ox (by assumption)) (by rfl) (by rfl)) | exact Or.inr (tagO (Or0.ox (by assumption)) (by rfl) (by rfl))) (by first | exact Or.inl (by decide) | exact Or.inr ⟨_, rfl, by assumption⟩) rfl (C_llAll (d := d + 183) hT6 hpq6 (by simp) (by omega) (by omega)) ?_
  rintro r S7 ⟨⟨zz, rfl⟩, mc7, hT7, hF7⟩
  rw [List.nil_append] at hT7
  rw [hal] at hF7
  have hX7 : XF K (fun _ => False) S6 S7 := XF.rf.f1 hF7 (fun _ => hL6.wk (by decide))
  have hL7 : LB S7 K la5 (idsOfL pu5) p5 (h95, o95, fi5, mk5, nn5, rp5) (B + 280000 + 1 + (13 + 16 * pu5.length)) := hL6.setText hF7 LoX.k hT7 hpn (by omega)
  have hR7 := hR6.f6 hF7 (W6.one hT6 (oNe rfl) rfl)
  have hq7 := (hX7.ob hq6 hk.2.1.1 (oNe rfl) rfl).1
  have h907 := hX7.fe hq6 hk.2.1.1 (oNe rfl) rfl h906 (by decide)
  have h897 := hX7.fi hq6 hk.2.1.1 (oNe rfl) rfl h896 (by decide)
  have hx7 := hL7.obx
  have e37 := hL7.e3
  obtain ⟨mt7, hT77⟩ := hL7.text
  (repeat (refine BW.pl rfl rfl ?_))
  (repeat (first | (refine BW.pl rfl rfl ?_) | (refine CW.geti rfl rfl (by assumption) rfl rfl (by assumption) (fun _ => ?_)) | (refine CW.getr rfl rfl (by assumption) rfl rfl (by assumption) ?_)))
  refine CW.e1 rfl rfl (by first | exact Or.inl rfl | exact Or.inr (tagO (by assumption) (by rfl) (by rfl)) | exact Or.inr (tagO (AdrIs.ox (by assumption)) (by rfl) (by rfl)) | exact Or.inr (tagO (PatIs.ox (by assumption)) (by rfl) (by rfl)) | exact Or.inr (tagO (Or0.ox (by assumption)) (by rfl) (by rfl))) (by first | exact Or.inl (by decide) | exact Or.inr ⟨_, rfl, by assumption⟩) rfl (B_llSize hT77) ?_
  rw [hal]
  first | (refine CW.putr rfl rfl (by assumption) rfl (by decide) (fun S8 hP8 h58 => ?_)) | (refine CW.puti rfl (by assumption) rfl (by decide) (by first | exact Or.inl ⟨rfl, by first | omega | decide | (constructor <;> first | omega | decide)⟩ | exact Or.inr (Or.inl ⟨rfl, by first | omega | decide | (constructor <;> first | omega | decide)⟩) | exact Or.inr (Or.inr (Or.inl ⟨rfl, by first | omega | decide | (constructor <;> first | omega | decide)⟩)) | exact Or.inr (Or.inr (Or.inr ⟨rfl, by first | omega | decide | (constructor <;> first | omega | decide)⟩))) (fun S8 hP8 h58 => ?_))
  (repeat (refine BW.pl rfl rfl ?_))
  have hL8 := (hL7.puP (p' := pu5.length) hP8 h58 rfl).le (B' := Bm) (by omega) (by omega)
  have hX8 : XF K (fun _ => False) S7 S8 := XF.rf.pu1 hP8 (by decide)
  exact BW.ret rfl rfl ⟨rfl, la5, ⟨hL8, hR7.f6 hP8.fr (W6.one hx7 (ownNe rfl) rfl)⟩, ((hX05.tr (XS.of hX6)).tr (XS.of hX7)).tr (XS.of hX8), hE5, hn5, hex5, (hX8.ob hq7 hk.2.1.1 (oNe rfl) rfl).1, hX8.fi hq7 hk.2.1.1 (oNe rfl) rfl h897 (by decide)⟩
end PY
