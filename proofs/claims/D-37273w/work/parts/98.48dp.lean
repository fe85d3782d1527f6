-- C
set_option maxRecDepth 100000
/-! LINEORDERS: a stream: what is done with a line -/
/-- what an act of a stream is told -/
def DpC (S : BS) (K : Nat → Nat) (F : Nat → Prop) (q oq ar pq dq : Nat) (la : Int → Nat) (t : List SLine) (x : SLine) (du : List (List Int)) (pu re : List SLine) (G : BG) (st tu : Nat) (ov : Bool) (ru : Nat → Nat → RG) (cap B Bm m : Nat) (od : SOrd0) (n0 : Int) : Prop := StW S K la q oq ar pq dq t ((x, false, du, pu, re), G, st, tu, ov, ru) cap B ∧ StK K F q ar pq dq ∧ WS n0 (x, false, du, pu, re) G ∧ t.length ≤ 40 ∧ Or0 S F False m od ∧ OdK od ∧ (cap ≤ 24400 ∧ du.length ≤ 16000) ∧ n0 < 1900000 ∧ B + 149500 ≤ Bm ∧ Bm ≤ 20000000
/-- what it answers -/
def DpX (S : BS) (K : Nat → Nat) (F : Nat → Prop) (q oq ar pq dq : Nat) (la : Int → Nat) (t : List SLine) (W : WG) (G : BG) (st tu : Nat) (ov : Bool) (ru : Nat → Nat → RG) (cap B Bm : Nat) (R : Nat ⊕ (WG × BG)) (rg : GO) (S' : BS) : Prop := match R with
  | .inl w => StR S K F q pq dq la G.2.2.2.2.1 G.2.1 Bm w rg S'
  | .inr (W1, G1) => rg = .inl none ∧ ∃ la1 cap1, (cap ≤ cap1 ∧ cap1 ≤ 24400) ∧ StW S' K la1 q oq ar pq dq t (W1, G1, st, tu, ov, ru) cap1 (B + 240 + 30 * (W1.2.2.2.1.length - W.2.2.2.1.length)) ∧ XA K q pq dq S S' ∧ LaE la la1 G.2.2.2.2.1 ∧ G.2.2.2.2.1 ≤ G1.2.2.2.2.1 ∧ ∃ ex, G1.2.1 = G.2.1 ++ ex
section DP
variable {d n m q oq ar pq dq a b f y cap cap' cap1 c i k B B' B2 st tu p Bm : Nat} {S S' S1 S2 : BS} {K : Nat → Nat} {V F : Nat → Prop} {o : Obj} {la la1 : Int → Nat} {t pu re rs pu1 re1 : List SLine} {x z x1 : SLine} {g g1 ov rp run : Bool} {du rows du1 du' : List (List Int)} {W : WG} {G G1 : BG} {ru : Nat → Nat → RG} {r : Option Nat} {v nn n0 : Int} {s row : List Int} {h9 o9 : List (List Int)} {fi : Nat → List (List Int)} {mk : Nat → Option Int} {od : SOrd0} {zz : Prop} {w : Nat} {rg : GO} {xs ys : List (Option Nat)}
theorem RowOk.drop9 {r : List Int} {j : Nat} (h : RowOk r) : RowOk (r.drop j) := ⟨by have := h.1; rw [List.length_drop]; omega, fun c hc => h.2 c (List.mem_of_mem_drop hc)⟩
theorem DpX.go (h : StW S' K la1 q oq ar pq dq t ((x1, g1, du1, pu1, re1), G1, st, tu, ov, ru) cap1 B2) (hc : cap ≤ cap1 ∧ cap1 ≤ 24400) (hB2 : B2 ≤ B + 240 + 30 * (pu1.length - pu.length)) (h40 : pu1.length ≤ pu.length + 40) (hBm : B + 149500 ≤ Bm ∧ Bm ≤ 20000000) (hX : XA K q pq dq S S') (hE : LaE la la1 G.2.2.2.2.1) (hn : G.2.2.2.2.1 ≤ G1.2.2.2.2.1) (ho : ∃ ex, G1.2.1 = G.2.1 ++ ex) : DpX S K F q oq ar pq dq la t (x, g, du, pu, re) G st tu ov ru cap B Bm (.inr ((x1, g1, du1, pu1, re1), G1)) (.inl none) S' := ⟨rfl, la1, cap1, hc, h.le hB2 (by dsimp only; omega), hX, hE, hn, ho⟩
theorem StS.stR (h : StS S1 K la1 q oq ar pq dq t (W, G, st, tu, ov, ru) rs cap B) (hX : XS K F (WSt q pq dq) S S1) (hE : LaE la la1 nn) (hn : nn ≤ G.2.2.2.2.1) (ho : ∃ ex, G.2.1 = o9 ++ ex) (hB : B + 6 * cap ≤ Bm) (hBm : Bm ≤ 20000000) (hT : Thr9 11 78 w S1 rg S') : StR S K F q pq dq la nn o9 Bm w rg S' := by
  obtain ⟨-, ⟨p, h2⟩, -⟩ := h
  exact ⟨S1, la1, t, p, G, h2.le hB hBm, hX, hE, hn, ho, hT⟩
theorem Or0.rws (hO : Or0 S F zz m od) : Ob S m (oOwn 7) ∧ ∃ q2 xs cap, Fe S 50 m (some q2) ∧ Ob S q2 (oAl xs cap) ∧ StrsIs S xs (oRows od) ∧ F q2 := by
  obtain ⟨_, hm, -, -, -, -, ⟨q2, h50, hf, ⟨-, ⟨xs, cap, h1, h2⟩, -⟩⟩, -⟩ := hO
  exact ⟨hm, q2, xs, cap, h50, h1, h2, hf⟩
theorem Or0.nm (hO : Or0 S F zz m od) : Ob S m (oOwn 7) ∧ Fi S 48 m (oAct od) ∧ Fi S 49 m (oNum od) := by
  obtain ⟨_, hm, -, -, -, h48, ⟨q2, h50, hf, ⟨h49, -⟩⟩, -⟩ := hO
  exact ⟨hm, h48, h49⟩
theorem StW.f0 (h : StW S K la q oq ar pq dq t (W, G, st, tu, ov, ru) cap B) (hk : StK K F q ar pq dq) (hF : Fr0 S S' c) (hB : B + c + 6 * cap ≤ 20000000) : StW S' K la q oq ar pq dq t (W, G, st, tu, ov, ru) cap (B + c) := by
  obtain ⟨p, hL⟩ := h.1.2.1
  exact h.xf (V := fun _ => False) hk (XF.rf.f0 hF) ⟨p, (hL.fr hF LoW.no (by omega)).le (by omega) hB⟩ rfl (fun _ _ z => z)
theorem StW.due (h : StW S K la q oq ar pq dq t ((x, g, du, pu, re), G, st, tu, ov, ru) cap B) (hk : StK K F q ar pq dq) (hd : Ob S dq (oAd xs cap)) (hF : Fr1 S S' dq (6 * (cap' - cap))) (hd' : ∃ xs', Ob S' dq (oAd xs' cap') ∧ StrsIs S' xs' du') (hc : cap ≤ cap') (hB : B + 6 * cap' ≤ 20000000) : StW S' K la q oq ar pq dq t ((x, g, du', pu, re), G, st, tu, ov, ru) cap' B := by
  obtain ⟨⟨h1, ⟨p, h2⟩, ⟨mc, h3⟩, -, h6, h7⟩, hk9⟩ := h
  have LW : LoW K S (fun k => k = dq) := LoW.one hk.2.1.2.2.2 hd (oNe rfl) rfl
  exact ⟨⟨h1.sT hd hF ⟨oNe rfl, fun _ _ => oNe rfl⟩, ⟨p, (h2.fr hF LW (by omega)).le (by omega) hB⟩, ⟨mc, h3.fr hF ⟨oNe rfl, h3.ne hd (oNe rfl)⟩⟩, hd', h6.sT h1.1 hd hF (oNe rfl), h7.fr hF LW⟩, hk9.sT h1.1 hd hF (oNe rfl)⟩
theorem XA.due (hX : XA K q pq dq S S1) (hd : Ob S1 dq (oAd xs cap)) (hF : Fr1 S1 S2 dq c) : XA K q pq dq S S2 := XS.st hX (Or.inr (Or.inr rfl)) hd (Or.inr (Or.inr ⟨_, _, rfl⟩)) hF
/-- the work's row is put -/
theorem StW.setRow (h : StW S K la q oq ar pq dq t ((x, false, du, pu, re), (h9, o9, fi, mk, nn, rp), st, tu, ov, ru) cap B) (hk : StK K F q ar pq dq) (hnd : (idsOfL (allL (x, false, du, pu, re))).Nodup) (hP : Pu S S' 44 (la x.1)) (hr : Fe S' 44 (la x.1) r) (hs : StrB S r row) : StW S' K la q oq ar pq dq t (((x.1, row), false, du, pu, re), (h9, o9, fi, mk, nn, rp), st, tu, ov, ru) cap B := by
  obtain ⟨hxR, hxo, -⟩ := h.wrow
  obtain ⟨⟨⟨h1, g2, g3, g4, g5, g6, g7⟩, ⟨p, h2⟩, ⟨mc, h3⟩, ⟨xs, h4, h5⟩, ⟨⟨k1, k2, k3, k4⟩, k5⟩, h7⟩, j1, j2, j3⟩ := h
  have h2 : LB S K la (idsOfL t) p (h9, o9, fi, mk, nn, rp) (B + 6 * cap) := h2
  have hx := h2.obx
  have hnd' : (idsOfL (pu ++ [x] ++ re)).Nodup := hnd
  rw [List.append_assoc, idsOfL_app, idsOfL_app, List.nodup_append] at hnd'
  refine ⟨⟨⟨h1.pu hP trivial, g2.pu hP (Or.inl (by decide)), g3.pu hP (Or.inl (by decide)), g4.pu hP (Or.inl (by decide)), g5.pu hP (Or.inl (by decide)), g6.pu hP (Or.inl (by decide)), g7.pu hP trivial⟩, ⟨p, h2.puL hP (hxo.ne hx (ownNe rfl)) (Or.inl (by decide))⟩, ⟨mc, h3.pu hP trivial⟩, ⟨xs, h4.pu hP trivial, h5.pu hP trivial⟩, ⟨⟨k1.pu hP (Or.inl (by decide)), k2.pu hP (Or.inl (by decide)), k3.pu hP (Or.inl (by decide)), k4.pu hP (Or.inl (by decide))⟩, k5⟩, ?_⟩, j1.pu hP (Or.inl (by decide)), j2.pu hP (Or.inl (by decide)), j3.pu hP (Or.inl (by decide))⟩
  have old : ∀ z ∈ allL (x, false, du, pu, re), z.1 ≠ x.1 → RowI S' la nn z := fun z hz hne => by
    obtain ⟨a1, a2, r2, a3, a4⟩ := h7 z hz
    exact ⟨a1, a2.pu hP trivial, r2, a3.pu hP (Or.inr (fun e => hne (h2.lai a1 hxR e))), a4.pu hP trivial⟩
  intro z hz
  have hz : z ∈ pu ++ [(x.1, row)] ++ re := hz
  rcases List.mem_append.mp hz with hz | hz
  · rcases List.mem_append.mp hz with hz | hz
    · refine old z (by show z ∈ pu ++ [x] ++ re; simp [hz]) (fun e => ?_)
      exact hnd'.2.2 z.1 (mem_ids hz) x.1 (List.mem_append_left _ (mem_ids List.mem_cons_self)) e
    · rw [List.mem_singleton.mp hz]
      exact ⟨hxR, hxo.pu hP trivial, r, hr, hs.pu hP trivial⟩
  · refine old z (by show z ∈ pu ++ [x] ++ re; simp [hz]) (fun e => ?_)
    have h8 := hnd'.2.1
    rw [List.nodup_append] at h8
    exact h8.2.2 x.1 (mem_ids List.mem_cons_self) z.1 (mem_ids hz) e.symm
theorem XA.rowP (hX : XA K q pq dq S S1) (hP : Pu S1 S2 44 m) : XA K q pq dq S S2 := XS.xf (V := fun _ => True) hX (XF.rf.puV hP trivial)
/-- rows are put -/
theorem L_putRows (h : StW S K la q oq ar pq dq t ((x, g, du, pu, re), (h9, o9, fi, mk, nn, rp), st, tu, ov, ru) cap B) (hk : StK K F q ar pq dq) (hx1 : x.1 < nn) (hb : Ob S b (oAl ys c)) (kb : KoM K b) (hbw : ¬ WSt q pq dq b) (hs : StrsIs S ys rows) (h40 : pu.length ≤ 40) (hpu : ∀ z ∈ pu, z.1 < nn) (hrl : rows.length ≤ 40) (hcap : cap ≤ 24400) (hn : nn < 1950000) (hB : B + 148000 ≤ Bm) (hBm : Bm ≤ 20000000) : BM (d + 6) gk_X13_putRows [aR q, aR b] S (fun r S' => if 40 < pu.length + rows.length then StR S K F q pq dq la nn o9 Bm 4 r S' else r = .inl none ∧ ∃ la1, StW S' K la1 q oq ar pq dq t ((x, g, du, pu ++ mkL nn rows, re), (h9, o9, fi, mk, nn + (rows.length : Nat), rp), st, tu, ov, ru) cap (B + 30 * rows.length) ∧ XA K q pq dq S S' ∧ LaE la la1 nn) := by
  have hyl := hs.1
  have hmem : ∀ {S2 : BS} {la2 : Int → Nat} {n2 : Int} {ps : List SLine}, RowsI S2 la2 n2 (allL (x, g, du, pu, re) ++ ps) → RowsI S2 la2 n2 (allL (x, g, du, pu ++ ps, re)) := fun {S2 la2 n2 ps} h => h.sub (fun z hz => by
    have hz : z ∈ (pu ++ ps) ++ (if g = true then [] else [x]) ++ re := hz
    show z ∈ (pu ++ (if g = true then [] else [x]) ++ re) ++ ps
    simp only [List.mem_append] at hz ⊢
    rcases hz with ((z1 | z1) | z1) | z1
    · exact Or.inl (Or.inl (Or.inl z1))
    · exact Or.inr z1
    · exact Or.inl (Or.inl (Or.inr z1))
    · exact Or.inl (Or.inr z1))
  refine BM.of rfl rfl rfl ?_
  have loop : ∀ (N j : Nat) (S2 : BS) (la2 : Int → Nat), j + N = rows.length → pu.length + j ≤ 40 → StS S2 K la2 q oq ar pq dq t ((x, g, du, pu ++ mkL nn (rows.take j), re), (h9, o9, fi, mk, nn + (j : Nat), rp), st, tu, ov, ru) (allL (x, g, du, pu, re) ++ mkL nn (rows.take j)) cap (B + 30 * j) → StWk S2 la2 q t (x, g, du, pu ++ mkL nn (rows.take j), re) → XA K q pq dq S S2 → LaE la la2 nn → Ob S2 b (oAl ys c) → StrsIs S2 ys rows → BW (d + 5) gm_X13_putRows 2 [some (aR q), some (aR b), some (aI j)] [] S2 (fun r S' => if 40 < pu.length + rows.length then StR S K F q pq dq la nn o9 Bm 4 r S' else r = .inl none ∧ ∃ la1, StW S' K la1 q oq ar pq dq t ((x, g, du, pu ++ mkL nn rows, re), (h9, o9, fi, mk, nn + (rows.length : Nat), rp), st, tu, ov, ru) cap (B + 30 * rows.length) ∧ XA K q pq dq S S' ∧ LaE la la1 nn) := by
    intro N
    induction N with
    | zero =>
      intro j S2 la2 hj hpj h2 hw2 hX2 hE2 hb2 hs2
      have ej : rows.take j = rows := List.take_of_length_le (by omega)
      rw [ej] at h2 hw2
      have hjr : j = rows.length := by omega
      subst hjr
      (repeat (refine BW.pl rfl rfl ?_))
      refine CW.e1 rfl rfl (by first | exact Or.inl rfl | exact Or.inr (tagO (by assumption) (by rfl) (by rfl)) | exact Or.inr (tagO (AdrIs.ox (by assumption)) (by rfl) (by rfl)) | exact Or.inr (tagO (PatIs.ox (by assumption)) (by rfl) (by rfl)) | exact Or.inr (tagO (Or0.ox (by assumption)) (by rfl) (by rfl))) (by first | exact Or.inl (by decide) | exact Or.inr ⟨_, rfl, by assumption⟩) rfl (B_alSize hb2) ?_
      refine BW.br rfl rfl (by first | omega | decide | (constructor <;> first | omega | decide)) (fun w => ?_) (fun w => by first | (exfalso; omega) | exact absurd w (by decide))
      refine BW.ret rfl rfl ?_
      rw [if_neg (by omega)]
      obtain ⟨a1, a2, a3, a4, a5, a6⟩ := h2
      exact ⟨rfl, la2, ⟨⟨a1, a2, a3, a4, a5, hmem a6⟩, hw2⟩, hX2, hE2⟩
    | succ N ih =>
      intro j S2 la2 hj hpj h2 hw2 hX2 hE2 hb2 hs2
      have hjl : j < rows.length := by omega
      obtain ⟨⟨y, hy1, hy2⟩, hyk⟩ := hs2.2 j hjl
      rw [hy1] at hyk
      have hpl : (pu ++ mkL nn (rows.take j)).length = pu.length + j := by rw [List.length_append, mkL_len, List.length_take]; omega
      have hpj2 : ∀ z ∈ pu ++ mkL nn (rows.take j), z.1 < nn + (j : Nat) := fun z hz => by
        rcases List.mem_append.mp hz with hz | hz
        · have := hpu z hz; omega
        · have := (mem_mkL (rows.take j) nn z hz).1.2
          rw [List.length_take] at this
          omega
      have hq2 := h2.1.1
      (repeat (refine BW.pl rfl rfl ?_))
      refine CW.e1 rfl rfl (by first | exact Or.inl rfl | exact Or.inr (tagO (by assumption) (by rfl) (by rfl)) | exact Or.inr (tagO (AdrIs.ox (by assumption)) (by rfl) (by rfl)) | exact Or.inr (tagO (PatIs.ox (by assumption)) (by rfl) (by rfl)) | exact Or.inr (tagO (Or0.ox (by assumption)) (by rfl) (by rfl))) (by first | exact Or.inl (by decide) | exact Or.inr ⟨_, rfl, by assumption⟩) rfl (B_alSize hb2) ?_
      refine BW.br rfl rfl (by first | omega | decide | (constructor <;> first | omega | decide)) (fun w => by first | (exfalso; omega) | exact absurd w (by decide)) (fun w => ?_)
      (repeat (refine BW.pl rfl rfl ?_))
      refine CW.e2 rfl rfl (by first | exact Or.inl rfl | exact Or.inr (tagO (by assumption) (by rfl) (by rfl)) | exact Or.inr (tagO (AdrIs.ox (by assumption)) (by rfl) (by rfl)) | exact Or.inr (tagO (PatIs.ox (by assumption)) (by rfl) (by rfl)) | exact Or.inr (tagO (Or0.ox (by assumption)) (by rfl) (by rfl))) (by first | exact Or.inl (by decide) | exact Or.inr ⟨_, rfl, by assumption⟩) rfl (C_alGet (k := j) hb2 (by omega) hy1 rfl) ?_
      refine CW.castS rfl hy2 rfl rfl rfl ?_
      refine CW.x2 rfl rfl (by first | exact Or.inl rfl | exact Or.inr (tagO (by assumption) (by rfl) (by rfl)) | exact Or.inr (tagO (AdrIs.ox (by assumption)) (by rfl) (by rfl)) | exact Or.inr (tagO (PatIs.ox (by assumption)) (by rfl) (by rfl)) | exact Or.inr (tagO (Or0.ox (by assumption)) (by rfl) (by rfl))) (by first | exact Or.inl (by decide) | exact Or.inr ⟨_, rfl, by assumption⟩) rfl rfl (L_putRow (d := d) h2 hk hy2 hyk (by omega) hpj2 (by omega) (by omega)) ?_ ?_
      · intro r S3 h3
        rw [hpl] at h3
        by_cases z40 : pu.length + j = 40
        · rw [if_pos z40] at h3
          obtain ⟨q9, e9, _⟩ := h3
          cases e9
        · rw [if_neg z40] at h3
          obtain ⟨e3, la3, g3, hX3, hE3, hwk3⟩ := h3
          cases e3
          have et : rows.take (j + 1) = rows.take j ++ [rows.getD j []] := by
            rw [List.take_succ_eq_append_getElem hjl, List.getD_eq_getElem?_getD, List.getElem?_eq_getElem hjl]; rfl
          have htl : (rows.take j).length = j := by rw [List.length_take]; omega
          have em : mkL nn (rows.take (j + 1)) = mkL nn (rows.take j) ++ [(nn + (j : Nat), rows.getD j [])] := by rw [et, mkL_app, htl]
          have ep : pu ++ mkL nn (rows.take (j + 1)) = pu ++ mkL nn (rows.take j) ++ [(nn + (j : Nat), rows.getD j [])] := by rw [em, List.append_assoc]
          have ea : allL (x, g, du, pu, re) ++ mkL nn (rows.take (j + 1)) = allL (x, g, du, pu, re) ++ mkL nn (rows.take j) ++ [(nn + (j : Nat), rows.getD j [])] := by rw [em, List.append_assoc]
          have en : nn + ((j + 1 : Nat) : Int) = nn + (j : Nat) + 1 := by omega
          (iterate 2 (refine BW.pl rfl rfl ?_))
          refine ih (j + 1) S3 la3 (by omega) (by omega) ?_ ?_ (hX2.tr hX3) (hE2.tr hE3 (by omega)) (hX3.ob hb2 kb hbw (oNe rfl) rfl) (hX3.strs hs2)
          · rw [ep, ea, en]
            exact g3.le (by omega) (by omega)
          · rw [ep]
            exact hwk3 hw2 (by show x.1 < nn + (j : Nat); omega)
      · intro E q9 S3 h3
        rw [hpl] at h3
        by_cases z40 : pu.length + j = 40
        · rw [if_pos z40] at h3
          rw [if_pos (by omega)]
          exact h2.stR hX2.up hE2 (by show nn ≤ nn + (j : Nat); omega) ⟨[], by simp⟩ (by omega) hBm h3
        · rw [if_neg z40] at h3
          cases h3.1
  (iterate 2 (refine BW.pl rfl rfl ?_))
  have e0 : mkL nn (rows.take 0) = [] := by rw [List.take_zero]; rfl
  refine loop rows.length 0 S la (Nat.zero_add _) (by omega) ?_ ?_ XS.rf LaE.rf hb hs
  · rw [e0, List.append_nil, List.append_nil, show nn + ((0 : Nat) : Int) = nn by omega]
    exact h.1
  · rw [e0, List.append_nil]
    exact h.2
theorem L_letGo (h : StW S K la q oq ar pq dq t ((x, false, du, pu, re), (h9, o9, fi, mk, nn, rp), st, tu, ov, ru) cap B) (hk : StK K F q ar pq dq) (hB : B + 5 + 6 * cap ≤ 20000000) : BMr (d + 7) gk_X13_letGo [aR q] S (fun r S' => r = none ∧ StW S' K la q oq ar pq dq t ((x, true, du, pu, re), (h9, o9, fi, unmk mk x.1, nn, rp), st, tu, ov, ru) cap (B + 5) ∧ XA K q pq dq S S') := by
  obtain ⟨hxR, hxo, y, hx44, hy, hyk⟩ := h.wrow
  have h0 := h
  obtain ⟨⟨hO, ⟨p, hL⟩, -⟩, h85, h86, h87⟩ := h0
  obtain ⟨hq, h79, h80, h81, h82, h90, har⟩ := id hO
  have hL : LB S K la (idsOfL t) p (h9, o9, fi, mk, nn, rp) (B + 6 * cap) := hL
  have h86 : Fe S 86 q (some (la x.1)) := h86
  have hx := hL.obx
  refine BM.of rfl rfl rfl ?_
  (repeat (first | (refine BW.pl rfl rfl ?_) | (refine CW.geti rfl rfl (by assumption) rfl rfl (by assumption) (fun _ => ?_)) | (refine CW.getr rfl rfl (by assumption) rfl rfl (by assumption) ?_)))
  refine CW.c2 rfl rfl (by first | exact Or.inl rfl | exact Or.inr (tagO (by assumption) (by rfl) (by rfl)) | exact Or.inr (tagO (AdrIs.ox (by assumption)) (by rfl) (by rfl)) | exact Or.inr (tagO (PatIs.ox (by assumption)) (by rfl) (by rfl)) | exact Or.inr (tagO (Or0.ox (by assumption)) (by rfl) (by rfl))) (by first | exact Or.inl (by decide) | exact Or.inr ⟨_, rfl, by assumption⟩) rfl (L_unmark (V := fun _ => False) (x := x.1) hL hxR (by omega)) ?_
  rintro r S1 ⟨rfl, hL1, hX1, hF1⟩
  have hL1 : LB S1 K la (idsOfL t) p (h9, o9, fi, unmk mk x.1, nn, rp) (B + 6 * cap + 5) := hL1
  have h1 : StW S1 K la q oq ar pq dq t ((x, false, du, pu, re), (h9, o9, fi, unmk mk x.1, nn, rp), st, tu, ov, ru) cap (B + 5) := StW.xf h hk hX1 ⟨p, hL1.le (by omega) hB⟩ rfl (fun _ _ z => z)
  have hq1 := h1.1.1.1
  (repeat (refine BW.pl rfl rfl ?_))
  first | (refine CW.putr rfl rfl (by assumption) rfl (by decide) (fun S2 hP2 h872 => ?_)) | (refine CW.puti rfl (by assumption) rfl (by decide) (by first | exact Or.inl ⟨rfl, by first | omega | decide | (constructor <;> first | omega | decide)⟩ | exact Or.inr (Or.inl ⟨rfl, by first | omega | decide | (constructor <;> first | omega | decide)⟩) | exact Or.inr (Or.inr (Or.inl ⟨rfl, by first | omega | decide | (constructor <;> first | omega | decide)⟩)) | exact Or.inr (Or.inr (Or.inr ⟨rfl, by first | omega | decide | (constructor <;> first | omega | decide)⟩))) (fun S2 hP2 h872 => ?_))
  obtain ⟨g1, g2, g3⟩ := h1
  refine BW.ret rfl rfl ⟨_, rfl, rfl, ⟨?_, g2.pu hP2 (Or.inl (by decide)), g3.1.pu hP2 (Or.inl (by decide)), h872⟩, (XS.of hX1).st (Or.inl rfl) hq1 (Or.inl rfl) hP2.fr⟩
  have h5 := g1.puq (ru' := ru) (x' := x) (g' := true) hk hP2 (by decide) (g1.2.2.2.2.1.puq hP2 (Or.inr (Or.inr rfl)))
  obtain ⟨a1, a2, a3, a4, a5, a6⟩ := h5
  exact ⟨a1, a2, a3, a4, a5, a6.sub (fun z hz => by
    have hz : z ∈ pu ++ [] ++ re := hz
    show z ∈ pu ++ [x] ++ re
    simp only [List.append_nil, List.mem_append] at hz ⊢
    exact hz.elim (fun z => Or.inl (Or.inl z)) Or.inr)⟩
theorem WS.pun (hw : WS n0 (x, g, du, pu, re) (h9, o9, fi, mk, nn, rp)) : (∀ z ∈ pu, z.1 < nn) ∧ (g = false → x.1 < nn) ∧ (n0 ≤ nn ∧ nn ≤ n0 + pu.length) ∧ pu.length ≤ 40 ∧ re.length ≤ 40 := by
  obtain ⟨_, h2, _, _, h5, _, _, _, h6, h7⟩ := hw.tt
  exact ⟨fun z hz => (h2 z (by show z ∈ pu ++ (if g = true then [] else [x]) ++ re; simp [hz])).1.2, fun e => (h2 x (by show x ∈ pu ++ (if g = true then [] else [x]) ++ re; rw [e]; simp)).1.2, ⟨h5.2.1, h5.2.2⟩, h6, h7⟩
theorem S_a (h : DpC S K F q oq ar pq dq la t x du pu re G st tu ov ru cap B Bm m od n0) : BW (d + 183) gm_X13_doPlain 3 [some (aR q), some (aR m), none] [] S (DpX S K F q oq ar pq dq la t (x, false, du, pu, re) G st tu ov ru cap B Bm (.inr (stDue (x, false, du, pu, re) (oRows od), G))) := by
  obtain ⟨hW, hk, hw, h40, hO, hod, ⟨hcp, hdl⟩, hn, hBm⟩ := h
  obtain ⟨hm, qr, xs, capr, h50, hqr, hss, _⟩ := hO.rws
  have hrl := hod.2.1.1
  have hxl := hss.1
  (repeat (first | (refine BW.pl rfl rfl ?_) | (refine CW.geti rfl rfl (by assumption) rfl rfl (by assumption) (fun _ => ?_)) | (refine CW.getr rfl rfl (by assumption) rfl rfl (by assumption) ?_)))
  refine CW.c1 rfl rfl (by first | exact Or.inl rfl | exact Or.inr (tagO (by assumption) (by rfl) (by rfl)) | exact Or.inr (tagO (AdrIs.ox (by assumption)) (by rfl) (by rfl)) | exact Or.inr (tagO (PatIs.ox (by assumption)) (by rfl) (by rfl)) | exact Or.inr (tagO (Or0.ox (by assumption)) (by rfl) (by rfl))) (by first | exact Or.inl (by decide) | exact Or.inr ⟨_, rfl, by assumption⟩) rfl (L_rowsOf hqr hss (by omega)) ?_
  rintro r S1 ⟨b, rfl, hb0, hbk, hb, hF1⟩
  have h1 := hW.f0 hk hF1 (by omega)
  have hss1 := hss.fr hF1 NoS.no
  obtain ⟨⟨⟨hq1, -, -, -, h821, -⟩, -, -, ⟨dxs, hd1, hds1⟩, -⟩, -⟩ := id h1
  have hds1 : StrsIs S1 dxs du := hds1
  refine CW.c2 rfl rfl (by first | exact Or.inl rfl | exact Or.inr (tagO (by assumption) (by rfl) (by rfl)) | exact Or.inr (tagO (AdrIs.ox (by assumption)) (by rfl) (by rfl)) | exact Or.inr (tagO (PatIs.ox (by assumption)) (by rfl) (by rfl)) | exact Or.inr (tagO (Or0.ox (by assumption)) (by rfl) (by rfl))) (by first | exact Or.inl (by decide) | exact Or.inr ⟨_, rfl, by assumption⟩) rfl (L_fallDue (d := d + 178) hq1 h821 hd1 hds1 hb hss1 hcp (by omega)) ?_
  rintro r S2 ⟨rfl, cap', hc1, hc2, hd2, hF2⟩
  have h2 := h1.due hk hd1 hF2 hd2 hc1 (by omega)
  (repeat (refine BW.pl rfl rfl ?_))
  exact BW.ret rfl rfl (DpX.go h2 ⟨hc1, hc2⟩ (by omega) (by omega) hBm (XA.due (XS.of (V := fun _ => True) (XF.rf.f0 hF1)) hd1 hF2) LaE.rf (Int.le_refl _) ⟨[], by simp⟩)
theorem S_u (h : DpC S K F q oq ar pq dq la t x du pu re G st tu ov ru cap B Bm m od n0) : BW (d + 183) gm_X13_doPlain 111 [some (aR q), some (aR m), none] [] S (DpX S K F q oq ar pq dq la t (x, false, du, pu, re) G st tu ov ru cap B Bm (if G.1 = [] then .inl 5 else .inr (stDue (x, false, du, pu, re) G.1, G))) := by
  obtain ⟨hW, hk, hw, h40, hO, hod, ⟨hcp, hdl⟩, hn, hBm⟩ := h
  obtain ⟨⟨⟨hq, -, -, -, h82, h90, -⟩, ⟨p, hL⟩, -, -, -⟩, -⟩ := id hW
  have hL : LB S K la (idsOfL t) p G (B + 6 * cap) := hL
  have hx := hL.obx
  have e7 := hL.e7
  obtain ⟨cap7, xs, hob, hss, hcap⟩ := hL.list (i := 7) (by decide)
  have hss : StrsIs S xs G.1 := hss
  have hxl := hss.1
  have hh40 : G.1.length ≤ 40 := hw.2.2.2.2.2.1.1
  (repeat (first | (refine BW.pl rfl rfl ?_) | (refine CW.geti rfl rfl (by assumption) rfl rfl (by assumption) (fun _ => ?_)) | (refine CW.getr rfl rfl (by assumption) rfl rfl (by assumption) ?_)))
  refine CW.e1 rfl rfl (by first | exact Or.inl rfl | exact Or.inr (tagO (by assumption) (by rfl) (by rfl)) | exact Or.inr (tagO (AdrIs.ox (by assumption)) (by rfl) (by rfl)) | exact Or.inr (tagO (PatIs.ox (by assumption)) (by rfl) (by rfl)) | exact Or.inr (tagO (Or0.ox (by assumption)) (by rfl) (by rfl))) (by first | exact Or.inl (by decide) | exact Or.inr ⟨_, rfl, by assumption⟩) rfl (B_alEmp hob) ?_
  by_cases z : G.1 = []
  · have z2 : xs = [] := List.length_eq_zero_iff.mp (by rw [hxl, z]; rfl)
    rw [if_pos z, if_pos z2]
    refine BW.br rfl rfl (by first | omega | decide | (constructor <;> first | omega | decide)) (fun w => ?_) (fun w => by first | (exfalso; omega) | exact absurd w (by decide))
    (repeat (refine BW.pl rfl rfl ?_))
    refine CW.need rfl rfl (by decide) rfl (Or.inl rfl) (by decide) rfl (fun w => absurd w (by decide)) (fun _ r9 S9 hT9 => ?_)
    exact hW.stR XS.rf (by omega) hBm.2 hT9
  · have z2 : ¬ xs = [] := fun w => z (List.length_eq_zero_iff.mp (by rw [← hxl, w]; rfl))
    rw [if_neg z, if_neg z2]
    refine BW.br rfl rfl (by first | omega | decide | (constructor <;> first | omega | decide)) (fun w => by first | (exfalso; omega) | exact absurd w (by decide)) (fun w => ?_)
    (repeat (refine BW.pl rfl rfl ?_))
    refine CW.need rfl rfl (by decide) rfl (Or.inr rfl) (by decide) rfl (fun _ => ?_) (fun w => absurd w (by decide))
    (repeat (first | (refine BW.pl rfl rfl ?_) | (refine CW.geti rfl rfl (by assumption) rfl rfl (by assumption) (fun _ => ?_)) | (refine CW.getr rfl rfl (by assumption) rfl rfl (by assumption) ?_)))
    refine CW.c1 rfl rfl (by first | exact Or.inl rfl | exact Or.inr (tagO (by assumption) (by rfl) (by rfl)) | exact Or.inr (tagO (AdrIs.ox (by assumption)) (by rfl) (by rfl)) | exact Or.inr (tagO (PatIs.ox (by assumption)) (by rfl) (by rfl)) | exact Or.inr (tagO (Or0.ox (by assumption)) (by rfl) (by rfl))) (by first | exact Or.inl (by decide) | exact Or.inr ⟨_, rfl, by assumption⟩) rfl (L_rowsOf hob hss (by omega)) ?_
    rintro r S1 ⟨b, rfl, hb0, hbk, hb, hF1⟩
    have h1 := hW.f0 hk hF1 (by omega)
    have hss1 := hss.fr hF1 NoS.no
    obtain ⟨⟨⟨hq1, -, -, -, h821, -⟩, -, -, ⟨dxs, hd1, hds1⟩, -⟩, -⟩ := id h1
    have hds1 : StrsIs S1 dxs du := hds1
    refine CW.c2 rfl rfl (by first | exact Or.inl rfl | exact Or.inr (tagO (by assumption) (by rfl) (by rfl)) | exact Or.inr (tagO (AdrIs.ox (by assumption)) (by rfl) (by rfl)) | exact Or.inr (tagO (PatIs.ox (by assumption)) (by rfl) (by rfl)) | exact Or.inr (tagO (Or0.ox (by assumption)) (by rfl) (by rfl))) (by first | exact Or.inl (by decide) | exact Or.inr ⟨_, rfl, by assumption⟩) rfl (L_fallDue (d := d + 178) hq1 h821 hd1 hds1 hb hss1 hcp (by omega)) ?_
    rintro r S2 ⟨rfl, cap', hc1, hc2, hd2, hF2⟩
    have h2 := h1.due hk hd1 hF2 hd2 hc1 (by omega)
    (repeat (refine BW.pl rfl rfl ?_))
    exact BW.ret rfl rfl (DpX.go h2 ⟨hc1, hc2⟩ (by omega) (by omega) hBm (XA.due (XS.of (V := fun _ => True) (XF.rf.f0 hF1)) hd1 hF2) LaE.rf (Int.le_refl _) ⟨[], by simp⟩)
theorem S_r (h : DpC S K F q oq ar pq dq la t x du pu re G st tu ov ru cap B Bm m od n0) (h4 : oNum od < 4) : BW (d + 183) gm_X13_doPlain 171 [some (aR q), some (aR m), none] [] S (DpX S K F q oq ar pq dq la t (x, false, du, pu, re) G st tu ov ru cap B Bm (.inr (stDue (x, false, du, pu, re) (G.2.2.1 (oNum od).toNat), G))) := by
  obtain ⟨hW, hk, hw, h40, hO, hod, ⟨hcp, hdl⟩, hn, hBm⟩ := h
  obtain ⟨⟨⟨hq, -, -, -, h82, h90, -⟩, ⟨p, hL⟩, -, -, -⟩, -⟩ := id hW
  have hL : LB S K la (idsOfL t) p G (B + 6 * cap) := hL
  obtain ⟨hm, h48, h49⟩ := hO.nm
  have hx := hL.obx
  have hnm := hod.1
  obtain ⟨j, hj⟩ : ∃ j : Nat, oNum od = j := ⟨(oNum od).toNat, by omega⟩
  have ej : (oNum od).toNat = j := by omega
  rw [ej]
  rw [hj] at h49
  have hj4 : j < 4 := by omega
  obtain ⟨e9, cf, hfs⟩ := hL.files
  obtain ⟨cap0, xs, hob, hss, -⟩ := hL.file hj4
  have hss : StrsIs S xs (G.2.2.1 j) := hss
  have hxl := hss.1
  have hf40 : (G.2.2.1 j).length ≤ 40 := (hw.2.2.2.2.2.2.2.1 j).1
  (repeat (first | (refine BW.pl rfl rfl ?_) | (refine CW.geti rfl rfl (by assumption) rfl rfl (by assumption) (fun _ => ?_)) | (refine CW.getr rfl rfl (by assumption) rfl rfl (by assumption) ?_)))
  refine CW.e2 rfl rfl (by first | exact Or.inl rfl | exact Or.inr (tagO (by assumption) (by rfl) (by rfl)) | exact Or.inr (tagO (AdrIs.ox (by assumption)) (by rfl) (by rfl)) | exact Or.inr (tagO (PatIs.ox (by assumption)) (by rfl) (by rfl)) | exact Or.inr (tagO (Or0.ox (by assumption)) (by rfl) (by rfl))) (by first | exact Or.inl (by decide) | exact Or.inr ⟨_, rfl, by assumption⟩) rfl (C_alGet hfs (show j < 4 from hj4) (fil_get hj4) rfl) ?_
  refine CW.castS rfl hob rfl rfl rfl ?_
  refine CW.c1 rfl rfl (by first | exact Or.inl rfl | exact Or.inr (tagO (by assumption) (by rfl) (by rfl)) | exact Or.inr (tagO (AdrIs.ox (by assumption)) (by rfl) (by rfl)) | exact Or.inr (tagO (PatIs.ox (by assumption)) (by rfl) (by rfl)) | exact Or.inr (tagO (Or0.ox (by assumption)) (by rfl) (by rfl))) (by first | exact Or.inl (by decide) | exact Or.inr ⟨_, rfl, by assumption⟩) rfl (L_rowsOf hob hss (by omega)) ?_
  rintro r S1 ⟨b, rfl, hb0, hbk, hb, hF1⟩
  have h1 := hW.f0 hk hF1 (by omega)
  have hss1 := hss.fr hF1 NoS.no
  obtain ⟨⟨⟨hq1, -, -, -, h821, -⟩, -, -, ⟨dxs, hd1, hds1⟩, -⟩, -⟩ := id h1
  have hds1 : StrsIs S1 dxs du := hds1
  refine CW.c2 rfl rfl (by first | exact Or.inl rfl | exact Or.inr (tagO (by assumption) (by rfl) (by rfl)) | exact Or.inr (tagO (AdrIs.ox (by assumption)) (by rfl) (by rfl)) | exact Or.inr (tagO (PatIs.ox (by assumption)) (by rfl) (by rfl)) | exact Or.inr (tagO (Or0.ox (by assumption)) (by rfl) (by rfl))) (by first | exact Or.inl (by decide) | exact Or.inr ⟨_, rfl, by assumption⟩) rfl (L_fallDue (d := d + 178) hq1 h821 hd1 hds1 hb hss1 hcp (by omega)) ?_
  rintro r S2 ⟨rfl, cap', hc1, hc2, hd2, hF2⟩
  have h2 := h1.due hk hd1 hF2 hd2 hc1 (by omega)
  (repeat (refine BW.pl rfl rfl ?_))
  exact BW.ret rfl rfl (DpX.go h2 ⟨hc1, hc2⟩ (by omega) (by omega) hBm (XA.due (XS.of (V := fun _ => True) (XF.rf.f0 hF1)) hd1 hF2) LaE.rf (Int.le_refl _) ⟨[], by simp⟩)
theorem S_i (h : DpC S K F q oq ar pq dq la t x du pu re G st tu ov ru cap B Bm m od n0) : BW (d + 183) gm_X13_doPlain 9 [some (aR q), some (aR m), none] [] S (DpX S K F q oq ar pq dq la t (x, false, du, pu, re) G st tu ov ru cap B Bm (stPuts (x, false, du, pu, re) G (oRows od))) := by
  obtain ⟨hW, hk, hw, h40, hO, hod, ⟨hcp, hdl⟩, hn, hBm⟩ := h
  obtain ⟨hm, qr, xs, capr, h50, hqr, hss, fqr⟩ := hO.rws
  have hrl := hod.2.1.1
  have hq := hW.1.1.1
  obtain ⟨h9, o9, fi, mk, nn, rp⟩ := G
  obtain ⟨p1, p2, p3, p4, p5⟩ := hw.pun
  have eP : stPuts (x, false, du, pu, re) (h9, o9, fi, mk, nn, rp) (oRows od) = if 40 < pu.length + (oRows od).length then .inl 4 else .inr ((x, false, du, pu ++ mkL nn (oRows od), re), h9, o9, fi, mk, nn + (oRows od).length, rp) := rfl
  rw [eP]
  (repeat (first | (refine BW.pl rfl rfl ?_) | (refine CW.geti rfl rfl (by assumption) rfl rfl (by assumption) (fun _ => ?_)) | (refine CW.getr rfl rfl (by assumption) rfl rfl (by assumption) ?_)))
  refine CW.x2 rfl rfl (by first | exact Or.inl rfl | exact Or.inr (tagO (by assumption) (by rfl) (by rfl)) | exact Or.inr (tagO (AdrIs.ox (by assumption)) (by rfl) (by rfl)) | exact Or.inr (tagO (PatIs.ox (by assumption)) (by rfl) (by rfl)) | exact Or.inr (tagO (Or0.ox (by assumption)) (by rfl) (by rfl))) (by first | exact Or.inl (by decide) | exact Or.inr ⟨_, rfl, by assumption⟩) rfl rfl (L_putRows (d := d + 177) hW hk (p2 rfl) hqr (hk.1 _ fqr) (fun z => by rcases z with z | z | z; exact hk.2.2.1 (z ▸ fqr); exact hk.2.2.2.1 (z ▸ fqr); exact hk.2.2.2.2 (z ▸ fqr)) hss p4 p1 hrl hcp (by omega) (by omega) hBm.2) ?_ ?_
  · intro r S2 h2
    by_cases z40 : 40 < pu.length + (oRows od).length
    · rw [if_pos z40] at h2
      obtain ⟨_, _, _, _, _, _, _, _, _, _, q9, e9, _⟩ := h2
      cases e9
    · rw [if_neg z40] at h2 ⊢
      obtain ⟨e2, la1, h2, hX2, hE2⟩ := h2
      cases e2
      have hpl : (pu ++ mkL nn (oRows od)).length = pu.length + (oRows od).length := by rw [List.length_append, mkL_len]
      (repeat (refine BW.pl rfl rfl ?_))
      exact BW.ret rfl rfl (DpX.go (G := (h9, o9, fi, mk, nn, rp)) h2 ⟨Nat.le_refl _, hcp⟩ (by omega) (by omega) hBm hX2 hE2 (by show nn ≤ nn + ((oRows od).length : Int); omega) ⟨[], by simp⟩)
  · intro E q9 S2 h2
    by_cases z40 : 40 < pu.length + (oRows od).length
    · rw [if_pos z40] at h2 ⊢
      exact h2
    · rw [if_neg z40] at h2
      cases h2.1
theorem S_d (h : DpC S K F q oq ar pq dq la t x du pu re G st tu ov ru cap B Bm m od n0) : BW (d + 183) gm_X13_doPlain 27 [some (aR q), some (aR m), none] [] S (DpX S K F q oq ar pq dq la t (x, false, du, pu, re) G st tu ov ru cap B Bm (.inr (stGone (x, false, du, pu, re) G))) := by
  obtain ⟨hW, hk, hw, h40, hO, hod, ⟨hcp, hdl⟩, hn, hBm⟩ := h
  have hq := hW.1.1.1
  obtain ⟨h9, o9, fi, mk, nn, rp⟩ := G
  (repeat (refine BW.pl rfl rfl ?_))
  refine CW.c1 rfl rfl (by first | exact Or.inl rfl | exact Or.inr (tagO (by assumption) (by rfl) (by rfl)) | exact Or.inr (tagO (AdrIs.ox (by assumption)) (by rfl) (by rfl)) | exact Or.inr (tagO (PatIs.ox (by assumption)) (by rfl) (by rfl)) | exact Or.inr (tagO (Or0.ox (by assumption)) (by rfl) (by rfl))) (by first | exact Or.inl (by decide) | exact Or.inr ⟨_, rfl, by assumption⟩) rfl (L_letGo (d := d + 176) hW hk (by omega)) ?_
  rintro r S1 ⟨rfl, h1, hX1⟩
  (repeat (refine BW.pl rfl rfl ?_))
  exact BW.ret rfl rfl (DpX.go (G := (h9, o9, fi, mk, nn, rp)) h1 ⟨Nat.le_refl _, hcp⟩ (by omega) (by omega) hBm hX1 LaE.rf (Int.le_refl _) ⟨[], by simp⟩)
theorem S_c (h : DpC S K F q oq ar pq dq la t x du pu re G st tu ov ru cap B Bm m od n0) (h61 : oSnd od ≠ none → Fi S 61 m (b2i (!run))) : BW (d + 183) gm_X13_doPlain 14 [some (aR q), some (aR m), none] [] S (DpX S K F q oq ar pq dq la t (x, false, du, pu, re) G st tu ov ru cap B Bm (if oSnd od = none ∨ run = false then (match stPuts (x, false, du, pu, re) G (oRows od) with
    | .inl w => .inl w
    | .inr (W1, B1) => .inr (stGone W1 B1)) else .inr (stGone (x, false, du, pu, re) G))) := by
  obtain ⟨hW, hk, hw, h40, hO, hod, ⟨hcp, hdl⟩, hn, hBm⟩ := h
  obtain ⟨hm, qr, xs, capr, h50, hqr, hss, fqr⟩ := hO.rws
  have hrl := hod.2.1.1
  have hq := hW.1.1.1
  obtain ⟨h9, o9, fi, mk, nn, rp⟩ := G
  obtain ⟨p1, p2, p3, p4, p5⟩ := hw.pun
  have hx1 := p2 rfl
  have puts : BW (d + 183) gm_X13_doPlain 20 [some (aR q), some (aR m), none] [] S (DpX S K F q oq ar pq dq la t (x, false, du, pu, re) (h9, o9, fi, mk, nn, rp) st tu ov ru cap B Bm (match stPuts (x, false, du, pu, re) (h9, o9, fi, mk, nn, rp) (oRows od) with
    | .inl w => .inl w
    | .inr (W1, B1) => .inr (stGone W1 B1))) := by
    have eP : stPuts (x, false, du, pu, re) (h9, o9, fi, mk, nn, rp) (oRows od) = if 40 < pu.length + (oRows od).length then .inl 4 else .inr ((x, false, du, pu ++ mkL nn (oRows od), re), h9, o9, fi, mk, nn + (oRows od).length, rp) := rfl
    rw [eP]
    (repeat (first | (refine BW.pl rfl rfl ?_) | (refine CW.geti rfl rfl (by assumption) rfl rfl (by assumption) (fun _ => ?_)) | (refine CW.getr rfl rfl (by assumption) rfl rfl (by assumption) ?_)))
    refine CW.x2 rfl rfl (by first | exact Or.inl rfl | exact Or.inr (tagO (by assumption) (by rfl) (by rfl)) | exact Or.inr (tagO (AdrIs.ox (by assumption)) (by rfl) (by rfl)) | exact Or.inr (tagO (PatIs.ox (by assumption)) (by rfl) (by rfl)) | exact Or.inr (tagO (Or0.ox (by assumption)) (by rfl) (by rfl))) (by first | exact Or.inl (by decide) | exact Or.inr ⟨_, rfl, by assumption⟩) rfl rfl (L_putRows (d := d + 177) hW hk hx1 hqr (hk.1 _ fqr) (fun z => by rcases z with z | z | z; exact hk.2.2.1 (z ▸ fqr); exact hk.2.2.2.1 (z ▸ fqr); exact hk.2.2.2.2 (z ▸ fqr)) hss p4 p1 hrl hcp (by omega) (by omega) hBm.2) ?_ ?_
    · intro r S2 h2
      by_cases z40 : 40 < pu.length + (oRows od).length
      · rw [if_pos z40] at h2
        obtain ⟨_, _, _, _, _, _, _, _, _, _, q9, e9, _⟩ := h2
        cases e9
      · rw [if_neg z40] at h2 ⊢
        obtain ⟨e2, la1, h2, hX2, hE2⟩ := h2
        cases e2
        have hq2 := h2.1.1.1
        have hpl : (pu ++ mkL nn (oRows od)).length = pu.length + (oRows od).length := by rw [List.length_append, mkL_len]
        (repeat (refine BW.pl rfl rfl ?_))
        refine CW.c1 rfl rfl (by first | exact Or.inl rfl | exact Or.inr (tagO (by assumption) (by rfl) (by rfl)) | exact Or.inr (tagO (AdrIs.ox (by assumption)) (by rfl) (by rfl)) | exact Or.inr (tagO (PatIs.ox (by assumption)) (by rfl) (by rfl)) | exact Or.inr (tagO (Or0.ox (by assumption)) (by rfl) (by rfl))) (by first | exact Or.inl (by decide) | exact Or.inr ⟨_, rfl, by assumption⟩) rfl (L_letGo (d := d + 176) h2 hk (by omega)) ?_
        rintro r S3 ⟨rfl, h3, hX3⟩
        (repeat (refine BW.pl rfl rfl ?_))
        exact BW.ret rfl rfl (DpX.go (G := (h9, o9, fi, mk, nn, rp)) h3 ⟨Nat.le_refl _, hcp⟩ (by omega) (by omega) hBm (hX2.tr hX3) hE2 (by show nn ≤ nn + ((oRows od).length : Int); omega) ⟨[], by simp⟩)
    · intro E q9 S2 h2
      by_cases z40 : 40 < pu.length + (oRows od).length
      · rw [if_pos z40] at h2 ⊢
        exact h2
      · rw [if_neg z40] at h2
        cases h2.1
  obtain ⟨_, _, _, _, ⟨r5, h47, hA⟩, _⟩ := id hO
  have hA : AdO S F r5 (oSnd od) := hA
  have h47 : Fe S 47 m r5 := h47
  revert h61 hA
  cases oSnd od with
  | none =>
    intro _ hA
    have hA : r5 = none := hA
    subst hA
    rw [if_pos (Or.inl rfl)]
    (repeat (first | (refine BW.pl rfl rfl ?_) | (refine CW.geti rfl rfl (by assumption) rfl rfl (by assumption) (fun _ => ?_)) | (refine CW.getr rfl rfl (by assumption) rfl rfl (by assumption) ?_)))
    refine CW.nul rfl rfl (fun n h => by cases h) ?_
    exact puts
  | some a2 =>
    intro h61 hA
    obtain ⟨b2, rfl, hB2⟩ := hA
    have h61 := h61 (fun z => by cases z)
    (repeat (first | (refine BW.pl rfl rfl ?_) | (refine CW.geti rfl rfl (by assumption) rfl rfl (by assumption) (fun _ => ?_)) | (refine CW.getr rfl rfl (by assumption) rfl rfl (by assumption) ?_)))
    refine CW.nul rfl rfl (fun n h => by cases h; rw [show S.1 b2 = _ from hB2.2.1]; rfl) ?_
    cases run with
    | true =>
      rw [if_neg (fun z => z.elim (fun y => by cases y) (fun y => by cases y))]
      replace h61 : Fi S 61 m 0 := h61
      (repeat (first | (refine BW.pl rfl rfl ?_) | (refine CW.geti rfl rfl (by assumption) rfl rfl (by assumption) (fun _ => ?_)) | (refine CW.getr rfl rfl (by assumption) rfl rfl (by assumption) ?_)))
      refine BW.br rfl rfl (by first | omega | decide | (constructor <;> first | omega | decide)) (fun w => ?_) (fun w => by first | (exfalso; omega) | exact absurd w (by decide))
      (repeat (refine BW.pl rfl rfl ?_))
      refine CW.c1 rfl rfl (by first | exact Or.inl rfl | exact Or.inr (tagO (by assumption) (by rfl) (by rfl)) | exact Or.inr (tagO (AdrIs.ox (by assumption)) (by rfl) (by rfl)) | exact Or.inr (tagO (PatIs.ox (by assumption)) (by rfl) (by rfl)) | exact Or.inr (tagO (Or0.ox (by assumption)) (by rfl) (by rfl))) (by first | exact Or.inl (by decide) | exact Or.inr ⟨_, rfl, by assumption⟩) rfl (L_letGo (d := d + 176) hW hk (by omega)) ?_
      rintro r S2 ⟨rfl, h2, hX2⟩
      (repeat (refine BW.pl rfl rfl ?_))
      exact BW.ret rfl rfl (DpX.go (G := (h9, o9, fi, mk, nn, rp)) h2 ⟨Nat.le_refl _, hcp⟩ (by omega) (by omega) hBm hX2 LaE.rf (Int.le_refl _) ⟨[], by simp⟩)
    | false =>
      rw [if_pos (Or.inr rfl)]
      replace h61 : Fi S 61 m 1 := h61
      (repeat (first | (refine BW.pl rfl rfl ?_) | (refine CW.geti rfl rfl (by assumption) rfl rfl (by assumption) (fun _ => ?_)) | (refine CW.getr rfl rfl (by assumption) rfl rfl (by assumption) ?_)))
      refine BW.br rfl rfl (by first | omega | decide | (constructor <;> first | omega | decide)) (fun w => by first | (exfalso; omega) | exact absurd w (by decide)) (fun w => ?_)
      exact puts
theorem S_v (h : DpC S K F q oq ar pq dq la t x du pu re G st tu ov ru cap B Bm m od n0) : BW (d + 183) gm_X13_doPlain 33 [some (aR q), some (aR m), none] [] S (DpX S K F q oq ar pq dq la t (x, false, du, pu, re) G st tu ov ru cap B Bm (if (oNum od).toNat < x.2.length then .inr (stRow (stDue (x, false, du, pu, re) [x.2.drop (oNum od).toNat]) (x.2.take (oNum od).toNat), G) else .inr ((x, false, du, pu, re), G))) := by
  obtain ⟨hW, hk, hw, h40, hO, hod, ⟨hcp, hdl⟩, hn, hBm⟩ := h
  obtain ⟨hm, h48, h49⟩ := hO.nm
  have hnm := hod.1
  obtain ⟨h9, o9, fi, mk, nn, rp⟩ := G
  obtain ⟨hxR, hxo, y, hx44, hy, hyk⟩ := hW.wrow
  have hx30 := hw.x30
  obtain ⟨⟨⟨hq, -, -, -, h82, h90, -⟩, -, -, ⟨dxs, hd, hds⟩, -⟩, h85, h86, h87⟩ := id hW
  have hds : StrsIs S dxs du := hds
  have h86 : Fe S 86 q (some (la x.1)) := h86
  obtain ⟨j, hj⟩ : ∃ j : Nat, oNum od = j := ⟨(oNum od).toNat, by omega⟩
  have ej : (oNum od).toNat = j := by omega
  rw [ej]
  rw [hj] at h49
  have km := hk.1 m hO.1
  (repeat (first | (refine BW.pl rfl rfl ?_) | (refine CW.geti rfl rfl (by assumption) rfl rfl (by assumption) (fun _ => ?_)) | (refine CW.getr rfl rfl (by assumption) rfl rfl (by assumption) ?_)))
  refine CW.e1 rfl rfl (by first | exact Or.inl rfl | exact Or.inr (tagO (by assumption) (by rfl) (by rfl)) | exact Or.inr (tagO (AdrIs.ox (by assumption)) (by rfl) (by rfl)) | exact Or.inr (tagO (PatIs.ox (by assumption)) (by rfl) (by rfl)) | exact Or.inr (tagO (Or0.ox (by assumption)) (by rfl) (by rfl))) (by first | exact Or.inl (by decide) | exact Or.inr ⟨_, rfl, by assumption⟩) rfl (B_slen hy) ?_
  (repeat (first | (refine BW.pl rfl rfl ?_) | (refine CW.geti rfl rfl (by assumption) rfl rfl (by assumption) (fun _ => ?_)) | (refine CW.getr rfl rfl (by assumption) rfl rfl (by assumption) ?_)))
  by_cases zs : j < x.2.length
  rotate_left
  · rw [if_neg zs]
    refine BW.br rfl rfl (by first | omega | decide | (constructor <;> first | omega | decide)) (fun w => ?_) (fun w => by first | (exfalso; omega) | exact absurd w (by decide))
    (repeat (refine BW.pl rfl rfl ?_))
    exact BW.ret rfl rfl (DpX.go (G := (h9, o9, fi, mk, nn, rp)) hW ⟨Nat.le_refl _, hcp⟩ (by omega) (by omega) hBm XS.rf LaE.rf (Int.le_refl _) ⟨[], by simp⟩)
  rw [if_pos zs]
  refine BW.br rfl rfl (by first | omega | decide | (constructor <;> first | omega | decide)) (fun w => by first | (exfalso; omega) | exact absurd w (by decide)) (fun w => ?_)
  (repeat (first | (refine BW.pl rfl rfl ?_) | (refine CW.geti rfl rfl (by assumption) rfl rfl (by assumption) (fun _ => ?_)) | (refine CW.getr rfl rfl (by assumption) rfl rfl (by assumption) ?_)))
  refine CW.c2 rfl rfl (by first | exact Or.inl rfl | exact Or.inr (tagO (by assumption) (by rfl) (by rfl)) | exact Or.inr (tagO (AdrIs.ox (by assumption)) (by rfl) (by rfl)) | exact Or.inr (tagO (PatIs.ox (by assumption)) (by rfl) (by rfl)) | exact Or.inr (tagO (Or0.ox (by assumption)) (by rfl) (by rfl))) (by first | exact Or.inl (by decide) | exact Or.inr ⟨_, rfl, by assumption⟩) rfl (C_subs1 (d := d + 177) hy ⟨by omega, by omega⟩) ?_
  rintro r S1 ⟨y2, rfl, hy2, hF1, hy2k⟩
  rw [sub9_fr] at hy2
  have h1 := hW.f0 hk hF1 (by omega)
  have hd1 := hd.fr hF1 ⟨oNe rfl, Sep.no⟩
  have hds1 := hds.fr hF1 NoS.no
  have hyk2 := hyk.sub hy2k
  have hdl1 := hds.1
  refine CW.c2 rfl rfl (by first | exact Or.inl rfl | exact Or.inr (tagO (by assumption) (by rfl) (by rfl)) | exact Or.inr (tagO (AdrIs.ox (by assumption)) (by rfl) (by rfl)) | exact Or.inr (tagO (PatIs.ox (by assumption)) (by rfl) (by rfl)) | exact Or.inr (tagO (Or0.ox (by assumption)) (by rfl) (by rfl))) (by first | exact Or.inl (by decide) | exact Or.inr ⟨_, rfl, by assumption⟩) rfl (C_adAdd (d := d + 179) hd1 (vOk_o hy2 rfl) (by omega)) ?_
  rintro r S2 ⟨rfl, cap', hd2, hF2, hc1, hc2⟩
  have h2 := h1.due (du' := du ++ [x.2.drop j]) hk hd1 hF2 ⟨_, hd2, (hds1.fr hF2 (NoS.one hd1 rfl)).app ⟨⟨y2, rfl, hy2.fr hF2 ⟨oNe rfl, hy2.ne hd1 (oNe rfl)⟩⟩, hyk2⟩⟩ hc1 (by omega)
  have hX2 : XA K q pq dq S S2 := XA.due (XS.of (V := fun _ => True) (XF.rf.f0 hF1)) hd1 hF2
  have hw2 : WS n0 (x, false, du ++ [x.2.drop j], pu, re) (h9, o9, fi, mk, nn, rp) := hw.due1 (fun r hr => by
    rw [List.mem_singleton.mp hr]
    exact RowOk.drop9 (hw.tt.2.1 x (by show x ∈ pu ++ [x] ++ re; simp)).2)
  obtain ⟨-, hxo2, y3, hx442, hy3, hyk3⟩ := h2.wrow
  have hq2 := h2.1.1.1
  have h862 : Fe S2 86 q (some (la x.1)) := h2.2.2.1
  have hm2 : Ob S2 m (oOwn 7) := (hX2.up (F := F)).ob hm km (fun z => (hk.wo.2 m z).2 hO.1) (oNe rfl) rfl
  have e9 := hm.old (oNe rfl)
  have h491 := h49.fr hF1 ⟨⟨e9, by decide⟩, Sep.no⟩
  have h492 := h491.fr hF2 ⟨⟨(hm.fr hF1 ⟨oNe rfl, Sep.no⟩).old (oNe rfl), by decide⟩, (hm.fr hF1 ⟨oNe rfl, Sep.no⟩).ne hd1 (oNe rfl)⟩
  (repeat (first | (refine BW.pl rfl rfl ?_) | (refine CW.geti rfl rfl (by assumption) rfl rfl (by assumption) (fun _ => ?_)) | (refine CW.getr rfl rfl (by assumption) rfl rfl (by assumption) ?_)))
  refine CW.c3 rfl rfl (by first | exact Or.inl rfl | exact Or.inr (tagO (by assumption) (by rfl) (by rfl)) | exact Or.inr (tagO (AdrIs.ox (by assumption)) (by rfl) (by rfl)) | exact Or.inr (tagO (PatIs.ox (by assumption)) (by rfl) (by rfl)) | exact Or.inr (tagO (Or0.ox (by assumption)) (by rfl) (by rfl))) (by first | exact Or.inl (by decide) | exact Or.inr ⟨_, rfl, by assumption⟩) rfl (C_subs (d := d + 178) (y := 0) hy3 ⟨by omega, by omega, by omega⟩) ?_
  rintro r S3 ⟨y4, rfl, hy4, hF3, hy4k⟩
  rw [sub9_to] at hy4
  have h3 := h2.f0 hk hF3 (by omega)
  have hxo3 := hxo2.fr hF3 ⟨oNe rfl, Sep.no⟩
  first | (refine CW.putr rfl rfl (by assumption) rfl (by decide) (fun S4 hP4 h444 => ?_)) | (refine CW.puti rfl (by assumption) rfl (by decide) (by first | exact Or.inl ⟨rfl, by first | omega | decide | (constructor <;> first | omega | decide)⟩ | exact Or.inr (Or.inl ⟨rfl, by first | omega | decide | (constructor <;> first | omega | decide)⟩) | exact Or.inr (Or.inr (Or.inl ⟨rfl, by first | omega | decide | (constructor <;> first | omega | decide)⟩)) | exact Or.inr (Or.inr (Or.inr ⟨rfl, by first | omega | decide | (constructor <;> first | omega | decide)⟩))) (fun S4 hP4 h444 => ?_))
  have h4 := h3.setRow hk hw2.tt.1 hP4 h444 ⟨⟨y4, rfl, hy4⟩, hyk3.sub hy4k⟩
  (repeat (refine BW.pl rfl rfl ?_))
  exact BW.ret rfl rfl (DpX.go (G := (h9, o9, fi, mk, nn, rp)) h4 ⟨hc1, by omega⟩ (by omega) (by omega) hBm (XA.rowP (XS.xf (V := fun _ => True) hX2 (XF.rf.f0 hF3)) hP4) LaE.rf (Int.le_refl _) ⟨[], by simp⟩)
/-- a row is told -/
theorem stTell_eq (W : WG) (G : BG) (r : List Int) : stTell W G r = if G.2.1.length = 100 ∨ 30 < r.length then .inl 4 else .inr (W, setLs G 8 (G.2.1 ++ [r])) := by
  obtain ⟨h9, o9, fi, mk, nn, rp⟩ := G
  unfold stTell sTell
  dsimp only
  by_cases z : o9.length = 100 ∨ 30 < r.length
  · rw [if_pos z, if_pos z]
  · rw [if_neg z, if_neg z]; rfl
theorem S_told (h : DpC S K F q oq ar pq dq la t x du pu re G st tu ov ru cap B Bm m od n0) (hW1 : StW S1 K la q oq ar pq dq t ((x, false, du, pu, re), G, st, tu, ov, ru) cap B2) (hB2 : B2 ≤ B + 239) (hX1 : XA K q pq dq S S1) (hy : Ob S1 y (oStr s)) (hyk : okS (some y)) (hs30 : s.length ≤ 30) (hi : i = 65 ∨ i = 72 ∨ i = 90) : BW (d + 183) gm_X13_doPlain i [some (aR q), some (aR m), none] [aR y, aR (K 1)] S1 (DpX S K F q oq ar pq dq la t (x, false, du, pu, re) G st tu ov ru cap B Bm (stTell (x, false, du, pu, re) G s)) := by
  obtain ⟨hW, hk, hw, h40, hO, hod, ⟨hcp, hdl⟩, hn, hBm⟩ := h
  obtain ⟨h9, o9, fi, mk, nn, rp⟩ := G
  obtain ⟨p, hL⟩ := hW1.1.2.1
  have hL : LB S1 K la (idsOfL t) p (h9, o9, fi, mk, nn, rp) (B2 + 6 * cap) := hL
  have hx1 := hL.obx
  have hoo : o9.length ≤ 100 := hw.oo.1
  rw [stTell_eq]
  have key : ∀ (S2 : BS) (rg : GO), (if o9.length = 100 then Thr9 11 78 4 S1 rg S2 else rg = .inl none ∧ LB S2 K la (idsOfL t) p (setLs (h9, o9, fi, mk, nn, rp) 8 (o9 ++ [s])) (B2 + 6 * cap + 1) ∧ XF K (fun _ => False) S1 S2 ∧ ∃ c, Fr1 S1 S2 (K 8) c) → DpX S K F q oq ar pq dq la t (x, false, du, pu, re) (h9, o9, fi, mk, nn, rp) st tu ov ru cap B Bm (if (h9, o9, fi, mk, nn, rp).2.1.length = 100 ∨ 30 < s.length then .inl 4 else .inr ((x, false, du, pu, re), setLs (h9, o9, fi, mk, nn, rp) 8 ((h9, o9, fi, mk, nn, rp).2.1 ++ [s]))) rg S2 ∧ (∀ r, rg = .inl r → r = none) := by
    intro S2 rg h2
    by_cases z : o9.length = 100
    · rw [if_pos z] at h2
      rw [if_pos (Or.inl z)]
      refine ⟨hW1.stR hX1.up (by omega) hBm.2 h2, fun r e => ?_⟩
      obtain ⟨q9, e9, _⟩ := h2
      rw [e9] at e; cases e
    · rw [if_neg z] at h2
      rw [if_neg (fun y => y.elim z (fun y => absurd hs30 (by omega)))]
      obtain ⟨e2, hL2, hX2, c, hF2⟩ := h2
      subst e2
      have h3 := StW.xf (G' := (h9, o9 ++ [s], fi, mk, nn, rp)) (B' := B2 + 1) hW1 hk hX2 ⟨p, hL2.le (by omega) (by omega)⟩ rfl (fun _ _ z => z)
      exact ⟨DpX.go (G := (h9, o9, fi, mk, nn, rp)) (G1 := (h9, o9 ++ [s], fi, mk, nn, rp)) h3 ⟨Nat.le_refl _, hcp⟩ (by omega) (by omega) hBm (hX1.xf hX2) LaE.rf (Int.le_refl _) ⟨[s], rfl⟩, fun r e => by cases e; rfl⟩
  rcases hi with rfl | rfl | rfl
  · refine CW.x2 rfl rfl (by first | exact Or.inl rfl | exact Or.inr (tagO (by assumption) (by rfl) (by rfl)) | exact Or.inr (tagO (AdrIs.ox (by assumption)) (by rfl) (by rfl)) | exact Or.inr (tagO (PatIs.ox (by assumption)) (by rfl) (by rfl)) | exact Or.inr (tagO (Or0.ox (by assumption)) (by rfl) (by rfl))) (by first | exact Or.inl (by decide) | exact Or.inr ⟨_, rfl, by assumption⟩) rfl rfl (L_tell (d := d + 175) (V := fun _ => False) hL hy hyk hoo (by omega)) ?_ ?_
    · intro r S2 h2
      obtain ⟨k1, k2⟩ := key S2 _ h2
      obtain rfl := k2 r rfl
      (repeat (refine BW.pl rfl rfl ?_))
      exact BW.ret rfl rfl k1
    · intro E q9 S2 h2
      exact (key S2 _ h2).1
  · refine CW.x2 rfl rfl (by first | exact Or.inl rfl | exact Or.inr (tagO (by assumption) (by rfl) (by rfl)) | exact Or.inr (tagO (AdrIs.ox (by assumption)) (by rfl) (by rfl)) | exact Or.inr (tagO (PatIs.ox (by assumption)) (by rfl) (by rfl)) | exact Or.inr (tagO (Or0.ox (by assumption)) (by rfl) (by rfl))) (by first | exact Or.inl (by decide) | exact Or.inr ⟨_, rfl, by assumption⟩) rfl rfl (L_tell (d := d + 175) (V := fun _ => False) hL hy hyk hoo (by omega)) ?_ ?_
    · intro r S2 h2
      obtain ⟨k1, k2⟩ := key S2 _ h2
      obtain rfl := k2 r rfl
      (repeat (refine BW.pl rfl rfl ?_))
      exact BW.ret rfl rfl k1
    · intro E q9 S2 h2
      exact (key S2 _ h2).1
  · refine CW.x2 rfl rfl (by first | exact Or.inl rfl | exact Or.inr (tagO (by assumption) (by rfl) (by rfl)) | exact Or.inr (tagO (AdrIs.ox (by assumption)) (by rfl) (by rfl)) | exact Or.inr (tagO (PatIs.ox (by assumption)) (by rfl) (by rfl)) | exact Or.inr (tagO (Or0.ox (by assumption)) (by rfl) (by rfl))) (by first | exact Or.inl (by decide) | exact Or.inr ⟨_, rfl, by assumption⟩) rfl rfl (L_tell (d := d + 175) (V := fun _ => False) hL hy hyk hoo (by omega)) ?_ ?_
    · intro r S2 h2
      obtain ⟨k1, k2⟩ := key S2 _ h2
      obtain rfl := k2 r rfl
      (repeat (refine BW.pl rfl rfl ?_))
      exact BW.ret rfl rfl k1
    · intro E q9 S2 h2
      exact (key S2 _ h2).1
theorem S_p (h : DpC S K F q oq ar pq dq la t x du pu re G st tu ov ru cap B Bm m od n0) : BW (d + 183) gm_X13_doPlain 60 [some (aR q), some (aR m), none] [] S (DpX S K F q oq ar pq dq la t (x, false, du, pu, re) G st tu ov ru cap B Bm (stTell (x, false, du, pu, re) G x.2)) := by
  have h0 := h
  obtain ⟨hW, hk, hw, h40, hO, hod, ⟨hcp, hdl⟩, hn, hBm⟩ := h
  obtain ⟨h9, o9, fi, mk, nn, rp⟩ := G
  obtain ⟨hxR, hxo, y, hx44, hy, hyk⟩ := hW.wrow
  obtain ⟨⟨⟨hq, -, -, -, h82, h90, -⟩, -⟩, h85, h86, h87⟩ := id hW
  have h86 : Fe S 86 q (some (la x.1)) := h86
  (repeat (first | (refine BW.pl rfl rfl ?_) | (refine CW.geti rfl rfl (by assumption) rfl rfl (by assumption) (fun _ => ?_)) | (refine CW.getr rfl rfl (by assumption) rfl rfl (by assumption) ?_)))
  exact S_told (d := d) h0 hW (by omega) XS.rf hy hyk hw.x30 (Or.inl rfl)
theorem S_eq (h : DpC S K F q oq ar pq dq la t x du pu re G st tu ov ru cap B Bm m od n0) : BW (d + 183) gm_X13_doPlain 67 [some (aR q), some (aR m), none] [] S (DpX S K F q oq ar pq dq la t (x, false, du, pu, re) G st tu ov ru cap B Bm (stTell (x, false, du, pu, re) G (sNum (t.length - re.length)))) := by
  have h0 := h
  obtain ⟨hW, hk, hw, h40, hO, hod, ⟨hcp, hdl⟩, hn, hBm⟩ := h
  obtain ⟨h9, o9, fi, mk, nn, rp⟩ := G
  obtain ⟨⟨⟨hq, -, -, -, h82, h90, -⟩, -⟩, h85, h86, h87⟩ := id hW
  have h85 : Fi S 85 q ((t.length - re.length : Nat) : Int) := h85
  have hdg := dgL_len (v := ((t.length - re.length : Nat) : Int)) ⟨by omega, by omega⟩
  rw [sNum_dg (by omega)]
  (repeat (first | (refine BW.pl rfl rfl ?_) | (refine CW.geti rfl rfl (by assumption) rfl rfl (by assumption) (fun _ => ?_)) | (refine CW.getr rfl rfl (by assumption) rfl rfl (by assumption) ?_)))
  refine CW.c1 rfl rfl (by first | exact Or.inl rfl | exact Or.inr (tagO (by assumption) (by rfl) (by rfl)) | exact Or.inr (tagO (AdrIs.ox (by assumption)) (by rfl) (by rfl)) | exact Or.inr (tagO (PatIs.ox (by assumption)) (by rfl) (by rfl)) | exact Or.inr (tagO (Or0.ox (by assumption)) (by rfl) (by rfl))) (by first | exact Or.inl (by decide) | exact Or.inr ⟨_, rfl, by assumption⟩) rfl (C_intVal (d := d + 180) ⟨by omega, by omega⟩) ?_
  rintro r S1 ⟨y, rfl, hyk, hy0, hy, hF1⟩
  exact S_told (d := d) h0 (hW.f0 hk hF1 (by omega)) (by omega) (XS.of (V := fun _ => True) (XF.rf.f0 hF1)) hy (okS.mk (Or.inl hyk)) (by omega) (Or.inr (Or.inl rfl))
theorem StW.fw (h : StW S K la q oq ar pq dq t (W, G, st, tu, ov, ru) cap B) (hk : StK K F q ar pq dq) (hF : Fr1 S S' m c) (hm : Ob S m o) (km : KoM K m) (ho : o ≠ oOwn 6 ∧ (o.1 == 1) = false) (hX : XF K (fun _ => False) S S') (hB : B + c + 6 * cap ≤ 20000000) : StW S' K la q oq ar pq dq t (W, G, st, tu, ov, ru) cap (B + c) := by
  obtain ⟨p, hL⟩ := h.1.2.1
  exact h.xf hk hX ⟨p, (hL.fr hF (LoW.one km hm ho.1 ho.2) (by omega)).le (by omega) hB⟩ rfl (fun _ _ z => z)
theorem S_n (h : DpC S K F q oq ar pq dq la t x du pu re G st tu ov ru cap B Bm m od n0) : BW (d + 183) gm_X13_doPlain 74 [some (aR q), some (aR m), none] [] S (DpX S K F q oq ar pq dq la t (x, false, du, pu, re) G st tu ov ru cap B Bm (stTell (x, false, du, pu, re) G (sNum (t.length - re.length) ++ [32] ++ x.2))) := by
  have h0 := h
  obtain ⟨hW, hk, hw, h40, hO, hod, ⟨hcp, hdl⟩, hn, hBm⟩ := h
  obtain ⟨h9, o9, fi, mk, nn, rp⟩ := G
  have hx30 := hw.x30
  obtain ⟨⟨⟨hq, -, -, -, h82, h90, -⟩, -⟩, h85, h86, h87⟩ := id hW
  have h85 : Fi S 85 q ((t.length - re.length : Nat) : Int) := h85
  have hnr : (0 : Int) ≤ ((t.length - re.length : Nat) : Int) ∧ ((t.length - re.length : Nat) : Int) < 100 := ⟨by omega, by omega⟩
  have hdg := dgL_len hnr
  rw [sNum_dg (by omega)]
  (repeat (first | (refine BW.pl rfl rfl ?_) | (refine CW.geti rfl rfl (by assumption) rfl rfl (by assumption) (fun _ => ?_)) | (refine CW.getr rfl rfl (by assumption) rfl rfl (by assumption) ?_)))
  refine CW.newJ (L := 4) (c := 14) rfl rfl rfl (fun bb S1 hN => ?_)
  have hbb := hN.ob
  have hbbk := hN.1
  have h1 := hW.f0 hk hN.fr (by omega)
  obtain ⟨p, hL⟩ := hW.1.2.1
  have hbo := hL.ko hN.nil
  have hb0 := hN.nil
  have hX1 : XF K (fun _ => False) S S1 := XF.rf.nw hN
  have hL : LB S K la (idsOfL t) p (h9, o9, fi, mk, nn, rp) (B + 6 * cap) := hL
  obtain ⟨hxR, hxo, y, hx44, hy, hyk⟩ := hW.wrow
  have hL1 := hL.fr hN.fr LoW.no (by omega)
  have hy1 := hy.fr hN.fr ⟨oNe rfl, Sep.no⟩
  (repeat (refine BW.pl rfl rfl ?_))
  refine CW.c1 rfl rfl (by first | exact Or.inl rfl | exact Or.inr (tagO (by assumption) (by rfl) (by rfl)) | exact Or.inr (tagO (AdrIs.ox (by assumption)) (by rfl) (by rfl)) | exact Or.inr (tagO (PatIs.ox (by assumption)) (by rfl) (by rfl)) | exact Or.inr (tagO (Or0.ox (by assumption)) (by rfl) (by rfl))) (by first | exact Or.inl (by decide) | exact Or.inr ⟨_, rfl, by assumption⟩) rfl (C_sbNew (d := d + 181) hbb) ?_
  rintro r S2 ⟨rfl, hb2, hF2⟩
  have hX2 : XF K (fun _ => False) S S2 := hX1.f1 hF2 (fun z => absurd hb0 z)
  have hL2 := hL1.fr hF2 (LoW.one hbo hbb (oNe rfl) rfl) (by omega)
  have hy2 := hy1.fr hF2 ⟨oNe rfl, hy1.ne hbb (oNe rfl)⟩
  have h2 := StW.xf (B' := B + 60) hW hk hX2 ⟨p, hL2.le (by omega) (by omega)⟩ rfl (fun _ _ z => z)
  have hq2 := h2.1.1.1
  have h852 : Fi S2 85 q ((t.length - re.length : Nat) : Int) := h2.2.1
  (repeat (first | (refine BW.pl rfl rfl ?_) | (refine CW.geti rfl rfl (by assumption) rfl rfl (by assumption) (fun _ => ?_)) | (refine CW.getr rfl rfl (by assumption) rfl rfl (by assumption) ?_)))
  refine CW.c2 rfl rfl (by first | exact Or.inl rfl | exact Or.inr (tagO (by assumption) (by rfl) (by rfl)) | exact Or.inr (tagO (AdrIs.ox (by assumption)) (by rfl) (by rfl)) | exact Or.inr (tagO (PatIs.ox (by assumption)) (by rfl) (by rfl)) | exact Or.inr (tagO (Or0.ox (by assumption)) (by rfl) (by rfl))) (by first | exact Or.inl (by decide) | exact Or.inr ⟨_, rfl, by assumption⟩) rfl (C_sbAppI (d := d + 178) hb2 hnr (by decide)) ?_
  rintro r S3 ⟨rfl, cp3, hb3, hF3, k31, k32⟩
  simp only [List.nil_append] at hb3 k32
  have hX3 : XF K (fun _ => False) S S3 := hX2.f1 hF3 (fun z => absurd hb0 z)
  have hL3 := hL2.fr hF3 (LoW.one hbo hb2 (oNe rfl) rfl) (by omega)
  have hy3 := hy2.fr hF3 ⟨oNe rfl, hy2.ne hb2 (oNe rfl)⟩
  (repeat (refine BW.pl rfl rfl ?_))
  refine BW.kst (fun hKs => ?_)
  have k7 : Ob S3 263 (oStr [32]) := hKs 263 (by decide)
  refine CW.c2 rfl rfl (by first | exact Or.inl rfl | exact Or.inr (tagO (by assumption) (by rfl) (by rfl)) | exact Or.inr (tagO (AdrIs.ox (by assumption)) (by rfl) (by rfl)) | exact Or.inr (tagO (PatIs.ox (by assumption)) (by rfl) (by rfl)) | exact Or.inr (tagO (Or0.ox (by assumption)) (by rfl) (by rfl))) (by first | exact Or.inl (by decide) | exact Or.inr ⟨_, rfl, by assumption⟩) rfl (C_sbAppS (d := d + 178) hb3 k7 (by simp only [List.length_cons, List.length_nil]; omega)) ?_
  rintro r S4 ⟨rfl, cp4, hb4, hF4, k41, k42⟩
  rw [List.length_append, List.length_singleton] at k42
  have hX4 : XF K (fun _ => False) S S4 := hX3.f1 hF4 (fun z => absurd hb0 z)
  have hL4 := hL3.fr hF4 (LoW.one hbo hb3 (oNe rfl) rfl) (by omega)
  have hy4 := hy3.fr hF4 ⟨oNe rfl, hy3.ne hb3 (oNe rfl)⟩
  have h4 := StW.xf (B' := B + 260) hW hk hX4 ⟨p, hL4.le (by omega) (by omega)⟩ rfl (fun _ _ z => z)
  obtain ⟨-, hxo4, y4, hx444, hyy4, hyk4⟩ := h4.wrow
  have hq4 := h4.1.1.1
  have h864 : Fe S4 86 q (some (la x.1)) := h4.2.2.1
  (repeat (first | (refine BW.pl rfl rfl ?_) | (refine CW.geti rfl rfl (by assumption) rfl rfl (by assumption) (fun _ => ?_)) | (refine CW.getr rfl rfl (by assumption) rfl rfl (by assumption) ?_)))
  refine CW.c2 rfl rfl (by first | exact Or.inl rfl | exact Or.inr (tagO (by assumption) (by rfl) (by rfl)) | exact Or.inr (tagO (AdrIs.ox (by assumption)) (by rfl) (by rfl)) | exact Or.inr (tagO (PatIs.ox (by assumption)) (by rfl) (by rfl)) | exact Or.inr (tagO (Or0.ox (by assumption)) (by rfl) (by rfl))) (by first | exact Or.inl (by decide) | exact Or.inr ⟨_, rfl, by assumption⟩) rfl (C_sbAppS (d := d + 178) hb4 hyy4 (by rw [List.length_append, List.length_singleton]; omega)) ?_
  rintro r S5 ⟨rfl, cp5, hb5, hF5, k51, k52⟩
  rw [List.length_append, List.length_append, List.length_singleton] at k52
  have hX5 : XF K (fun _ => False) S S5 := hX4.f1 hF5 (fun z => absurd hb0 z)
  have hL5 := hL4.fr hF5 (LoW.one hbo hb4 (oNe rfl) rfl) (by omega)
  (repeat (refine BW.pl rfl rfl ?_))
  refine CW.c1 rfl rfl (by first | exact Or.inl rfl | exact Or.inr (tagO (by assumption) (by rfl) (by rfl)) | exact Or.inr (tagO (AdrIs.ox (by assumption)) (by rfl) (by rfl)) | exact Or.inr (tagO (PatIs.ox (by assumption)) (by rfl) (by rfl)) | exact Or.inr (tagO (Or0.ox (by assumption)) (by rfl) (by rfl))) (by first | exact Or.inl (by decide) | exact Or.inr ⟨_, rfl, by assumption⟩) rfl (C_sbStr (d := d + 177) hb5) ?_
  rintro r S6 ⟨y6, rfl, hy6k, hy60, hy6, hF6⟩
  have hsxl : (dg ((t.length - re.length : Nat) : Int) ++ [32] ++ x.2).length = (dg ((t.length - re.length : Nat) : Int)).length + 1 + x.2.length := by rw [List.length_append, List.length_append, List.length_singleton]
  have hX6 : XF K (fun _ => False) S S6 := hX5.f0 hF6
  have hL6 := hL5.fr hF6 LoW.no (by omega)
  have h6 := StW.xf (B' := B + 300) hW hk hX6 ⟨p, hL6.le (by omega) (by omega)⟩ rfl (fun _ _ z => z)
  refine CW.x1 rfl rfl (by first | exact Or.inl rfl | exact Or.inr (tagO (by assumption) (by rfl) (by rfl)) | exact Or.inr (tagO (AdrIs.ox (by assumption)) (by rfl) (by rfl)) | exact Or.inr (tagO (PatIs.ox (by assumption)) (by rfl) (by rfl)) | exact Or.inr (tagO (Or0.ox (by assumption)) (by rfl) (by rfl))) (by first | exact Or.inl (by decide) | exact Or.inr ⟨_, rfl, by assumption⟩) rfl rfl (L_checked (d := d + 178) hy6) ?_ ?_
  · rintro r S7 h7
    by_cases z3 : 30 < (dg ((t.length - re.length : Nat) : Int) ++ [32] ++ x.2).length
    · rw [if_pos z3] at h7
      obtain ⟨q9, e9, _⟩ := h7
      cases e9
    · rw [if_neg z3] at h7
      obtain ⟨e7, rfl⟩ := h7
      cases e7
      have h6b := StW.xf (B' := B + 239) hW hk hX6 ⟨p, hL6.le (by omega) (by omega)⟩ rfl (fun _ _ z => z)
      exact S_told (d := d) h0 h6b (by omega) (XS.of hX6) hy6 (okS.mk (Or.inl hy6k)) (by omega) (Or.inr (Or.inr rfl))
  · rintro E q9 S7 h7
    by_cases z3 : 30 < (dg ((t.length - re.length : Nat) : Int) ++ [32] ++ x.2).length
    · rw [if_pos z3] at h7
      rw [stTell_eq, if_pos (Or.inr z3)]
      exact h6.stR (XS.of hX6) (by omega) hBm.2 h7
    · rw [if_neg z3] at h7
      cases h7.1
theorem S_h (h : DpC S K F q oq ar pq dq la t x du pu re G st tu ov ru cap B Bm m od n0) (hmo : (oAct od = 72 ∧ g = true) ∨ (oAct od = 104 ∧ g = false)) : BW (d + 183) gm_X13_doPlain 92 [some (aR q), some (aR m), none] [] S (DpX S K F q oq ar pq dq la t (x, false, du, pu, re) G st tu ov ru cap B Bm (if 40 < (if g = true then G.1 else []).length + 1 then .inl 4 else .inr ((x, false, du, pu, re), setLs G 7 ((if g = true then G.1 else []) ++ [x.2])))) := by
  obtain ⟨hW, hk, hw, h40, hO, hod, ⟨hcp, hdl⟩, hn, hBm⟩ := h
  obtain ⟨hm, h48, h49⟩ := hO.nm
  have km := hk.1 m hO.1
  obtain ⟨h9, o9, fi, mk, nn, rp⟩ := G
  have hh40 : h9.length ≤ 40 := hw.hh.1
  obtain ⟨hxR, hxo, y, hx44, hy, hyk⟩ := hW.wrow
  obtain ⟨⟨⟨hq, -, -, -, h82, h90, -⟩, ⟨p, hL⟩, -⟩, h85, h86, h87⟩ := id hW
  have h86 : Fe S 86 q (some (la x.1)) := h86
  have hL : LB S K la (idsOfL t) p (h9, o9, fi, mk, nn, rp) (B + 6 * cap) := hL
  (repeat (first | (refine BW.pl rfl rfl ?_) | (refine CW.geti rfl rfl (by assumption) rfl rfl (by assumption) (fun _ => ?_)) | (refine CW.getr rfl rfl (by assumption) rfl rfl (by assumption) ?_)))
  refine CW.arrR rfl rfl rfl ⟨by omega, by omega⟩ (fun a S1 hN => ?_)
  have ha0 := hN.nil
  have hao := hL.ko ha0
  have ha : Ob S1 a (oRa 105 (List.replicate 1 none)) := hN.ob
  have hL1 := hL.fr hN.fr LoW.no (by omega)
  have hX1 : XF K (fun _ => False) S S1 := XF.rf.nw hN
  have h1 := StW.xf (B' := B + 30) hW hk hX1 ⟨p, hL1.le (by omega) (by omega)⟩ rfl (fun _ _ z => z)
  obtain ⟨-, hxo1, y1, hx441, hy1, hyk1⟩ := h1.wrow
  have hq1 := h1.1.1.1
  have h861 : Fe S1 86 q (some (la x.1)) := h1.2.2.1
  (repeat (first | (refine BW.pl rfl rfl ?_) | (refine CW.geti rfl rfl (by assumption) rfl rfl (by assumption) (fun _ => ?_)) | (refine CW.getr rfl rfl (by assumption) rfl rfl (by assumption) ?_)))
  refine CW.aast rfl ha ⟨by omega, by simp⟩ (Or.inr ⟨_, rfl, by rw [show S1.1 y1 = _ from hy1]; rfl, Or.inl (by rw [show S1.1 y1 = _ from hy1]; rfl)⟩) (fun S2 ha2 hF2 => ?_)
  have ha2 : Ob S2 a (oRa 105 [some y1]) := ha2
  have hX2 : XF K (fun _ => False) S S2 := hX1.f1 hF2 (fun z => absurd ha0 z)
  have hL2 := hL1.fr hF2 (LoW.one hao ha (oNe rfl) rfl) (by omega)
  have hL2 : LB S2 K la (idsOfL t) p (h9, o9, fi, mk, nn, rp) (B + 6 * cap + 30) := hL2.le (by omega) (by omega)
  have h2 := StW.xf (B' := B + 30) hW hk hX2 ⟨p, hL2.le (by omega) (by omega)⟩ rfl (fun _ _ z => z)
  have hy2 := hy1.fr hF2 ⟨oNe rfl, hy1.ne ha (oNe rfl)⟩
  have hss2 : StrsIs S2 [some y1] [x.2] := ⟨rfl, fun j hj => by
    have hj : j < 1 := hj
    obtain rfl : j = 0 := by omega
    exact ⟨⟨y1, rfl, hy2⟩, hyk1⟩⟩
  have hm2 := (hX2.ob hm km (oNe rfl) rfl).1
  have h482 : Fi S2 48 m (oAct od) := hX2.fi hm km (oNe rfl) rfl h48 (by decide)
  have at109 : BW (d + 183) gm_X13_doPlain 109 [some (aR q), some (aR m), none] [aI (b2i g), aR a, aR (K 1)] S2 (DpX S K F q oq ar pq dq la t (x, false, du, pu, re) (h9, o9, fi, mk, nn, rp) st tu ov ru cap B Bm (if 40 < (if g = true then h9 else []).length + 1 then .inl 4 else .inr ((x, false, du, pu, re), setLs (h9, o9, fi, mk, nn, rp) 7 ((if g = true then h9 else []) ++ [x.2])))) := by
    have hx2 := hL2.obx
    have e1 : ([x.2] : List (List Int)).length = 1 := rfl
    refine CW.x3 rfl rfl (by first | exact Or.inl rfl | exact Or.inr (tagO (by assumption) (by rfl) (by rfl)) | exact Or.inr (tagO (AdrIs.ox (by assumption)) (by rfl) (by rfl)) | exact Or.inr (tagO (PatIs.ox (by assumption)) (by rfl) (by rfl)) | exact Or.inr (tagO (Or0.ox (by assumption)) (by rfl) (by rfl))) (by first | exact Or.inl (by decide) | exact Or.inr ⟨_, rfl, by assumption⟩) rfl rfl (L_hold (d := d + 176) (V := fun _ => False) (mo := g) hL2 ha2 hss2 hao hh40 (by omega) (by omega) rfl) ?_ ?_
    · intro r S3 h3
      rw [e1] at h3
      have h3 : if 40 < (if g = true then h9 else []).length + 1 then _ else _ := h3
      by_cases z : 40 < (if g = true then h9 else []).length + 1
      · rw [if_pos z] at h3
        obtain ⟨_, _, _, q9, e9, _⟩ := h3
        cases e9
      · rw [if_neg z] at h3 ⊢
        obtain ⟨e3, hL3, hX3, -⟩ := h3
        cases e3
        have h4 := StW.xf (G' := ((if g = true then h9 else []) ++ [x.2], o9, fi, mk, nn, rp)) (B' := B + 40) h2 hk hX3 ⟨p, hL3.le (by omega) (by omega)⟩ rfl (fun _ _ z => z)
        (repeat (refine BW.pl rfl rfl ?_))
        exact BW.ret rfl rfl (DpX.go (G := (h9, o9, fi, mk, nn, rp)) (G1 := ((if g = true then h9 else []) ++ [x.2], o9, fi, mk, nn, rp)) h4 ⟨Nat.le_refl _, hcp⟩ (by omega) (by omega) hBm ((XS.of hX2).xf hX3) LaE.rf (Int.le_refl _) ⟨[], by simp⟩)
    · intro E q9 S3 h3
      rw [e1] at h3
      have h3 : if 40 < (if g = true then h9 else []).length + 1 then _ else _ := h3
      by_cases z : 40 < (if g = true then h9 else []).length + 1
      · rw [if_pos z] at h3 ⊢
        obtain ⟨S4, hL4, hX4, h9'⟩ := h3
        exact ⟨S4, la, t, p, _, hL4.le (by omega) hBm.2, (XS.of hX2).xf hX4, LaE.rf, Int.le_refl _, ⟨[], by rw [List.append_nil]; rfl⟩, h9'⟩
      · rw [if_neg z] at h3
        cases h3.1
  (repeat (first | (refine BW.pl rfl rfl ?_) | (refine CW.geti rfl rfl (by assumption) rfl rfl (by assumption) (fun _ => ?_)) | (refine CW.getr rfl rfl (by assumption) rfl rfl (by assumption) ?_)))
  rcases hmo with ⟨ha', rfl⟩ | ⟨ha', rfl⟩
  · refine BW.br rfl rfl (by first | omega | decide | (constructor <;> first | omega | decide)) (fun w => by first | (exfalso; omega) | exact absurd w (by decide)) (fun w => ?_)
    (iterate 2 (refine BW.pl rfl rfl ?_))
    exact at109
  · refine BW.br rfl rfl (by first | omega | decide | (constructor <;> first | omega | decide)) (fun w => ?_) (fun w => by first | (exfalso; omega) | exact absurd w (by decide))
    (iterate 1 (refine BW.pl rfl rfl ?_))
    exact at109
theorem S_e (h : DpC S K F q oq ar pq dq la t x du pu re G st tu ov ru cap B Bm m od n0) : BW (d + 183) gm_X13_doPlain 128 [some (aR q), some (aR m), none] [] S (DpX S K F q oq ar pq dq la t (x, false, du, pu, re) G st tu ov ru cap B Bm (if G.1.length = 1 then .inr (stRow (x, false, du, pu, re) (G.1.getD 0 []), [x.2], G.2) else .inl 5)) := by
  obtain ⟨hW, hk, hw, h40, hO, hod, ⟨hcp, hdl⟩, hn, hBm⟩ := h
  obtain ⟨h9, o9, fi, mk, nn, rp⟩ := G
  obtain ⟨hxR, hxo, y, hx44, hy, hyk⟩ := hW.wrow
  obtain ⟨⟨⟨hq, -, -, -, h82, h90, -⟩, ⟨p, hL⟩, -⟩, h85, h86, h87⟩ := id hW
  have h86 : Fe S 86 q (some (la x.1)) := h86
  have hL : LB S K la (idsOfL t) p (h9, o9, fi, mk, nn, rp) (B + 6 * cap) := hL
  have hx := hL.obx
  have e7 := hL.e7
  obtain ⟨cap7, xs, hob, hss, hcap⟩ := hL.list (i := 7) (by decide)
  have hss : StrsIs S xs h9 := hss
  have hxl := hss.1
  have hhl : h9.length ≤ 40 := hw.hh.1
  show BW (d + 183) gm_X13_doPlain 128 [some (aR q), some (aR m), none] [] S (DpX S K F q oq ar pq dq la t (x, false, du, pu, re) (h9, o9, fi, mk, nn, rp) st tu ov ru cap B Bm (if h9.length = 1 then .inr (stRow (x, false, du, pu, re) (h9.getD 0 []), [x.2], (o9, fi, mk, nn, rp)) else .inl 5))
  (repeat (first | (refine BW.pl rfl rfl ?_) | (refine CW.geti rfl rfl (by assumption) rfl rfl (by assumption) (fun _ => ?_)) | (refine CW.getr rfl rfl (by assumption) rfl rfl (by assumption) ?_)))
  refine CW.e1 rfl rfl (by first | exact Or.inl rfl | exact Or.inr (tagO (by assumption) (by rfl) (by rfl)) | exact Or.inr (tagO (AdrIs.ox (by assumption)) (by rfl) (by rfl)) | exact Or.inr (tagO (PatIs.ox (by assumption)) (by rfl) (by rfl)) | exact Or.inr (tagO (Or0.ox (by assumption)) (by rfl) (by rfl))) (by first | exact Or.inl (by decide) | exact Or.inr ⟨_, rfl, by assumption⟩) rfl (B_alSize hob) ?_
  rw [hxl]
  (repeat (refine BW.pl rfl rfl ?_))
  by_cases z : h9.length = 1
  rotate_left
  · rw [if_neg z]
    refine BW.br rfl rfl (by first | omega | decide | (constructor <;> first | omega | decide)) (fun w => ?_) (fun w => by first | (exfalso; omega) | exact absurd w (by decide))
    (repeat (refine BW.pl rfl rfl ?_))
    refine CW.need rfl rfl (by decide) rfl (Or.inl rfl) (by decide) rfl (fun w => absurd w (by decide)) (fun _ r9 S9 hT9 => ?_)
    exact hW.stR XS.rf (by omega) hBm.2 hT9
  rw [if_pos z]
  obtain ⟨⟨yh, hyh1, hyh⟩, hyhk⟩ := hss.2 0 (by omega)
  rw [hyh1] at hyhk
  refine BW.br rfl rfl (by first | omega | decide | (constructor <;> first | omega | decide)) (fun w => by first | (exfalso; omega) | exact absurd w (by decide)) (fun w => ?_)
  (repeat (refine BW.pl rfl rfl ?_))
  refine CW.need rfl rfl (by decide) rfl (Or.inr rfl) (by decide) rfl (fun _ => ?_) (fun w => absurd w (by decide))
  (repeat (first | (refine BW.pl rfl rfl ?_) | (refine CW.geti rfl rfl (by assumption) rfl rfl (by assumption) (fun _ => ?_)) | (refine CW.getr rfl rfl (by assumption) rfl rfl (by assumption) ?_)))
  refine CW.e2 rfl rfl (by first | exact Or.inl rfl | exact Or.inr (tagO (by assumption) (by rfl) (by rfl)) | exact Or.inr (tagO (AdrIs.ox (by assumption)) (by rfl) (by rfl)) | exact Or.inr (tagO (PatIs.ox (by assumption)) (by rfl) (by rfl)) | exact Or.inr (tagO (Or0.ox (by assumption)) (by rfl) (by rfl))) (by first | exact Or.inl (by decide) | exact Or.inr ⟨_, rfl, by assumption⟩) rfl (C_alGet (d := d + 180) (k := 0) hob (by omega) hyh1 rfl) ?_
  refine CW.castS rfl hyh rfl rfl rfl ?_
  first | (refine CW.putr rfl rfl (by assumption) rfl (by decide) (fun S1 hP1 h441 => ?_)) | (refine CW.puti rfl (by assumption) rfl (by decide) (by first | exact Or.inl ⟨rfl, by first | omega | decide | (constructor <;> first | omega | decide)⟩ | exact Or.inr (Or.inl ⟨rfl, by first | omega | decide | (constructor <;> first | omega | decide)⟩) | exact Or.inr (Or.inr (Or.inl ⟨rfl, by first | omega | decide | (constructor <;> first | omega | decide)⟩)) | exact Or.inr (Or.inr (Or.inr ⟨rfl, by first | omega | decide | (constructor <;> first | omega | decide)⟩))) (fun S1 hP1 h441 => ?_))
  have h1 := hW.setRow hk hw.tt.1 hP1 h441 ⟨⟨yh, rfl, hyh⟩, hyhk⟩
  have hX1 : XA K q pq dq S S1 := XA.rowP XS.rf hP1
  obtain ⟨⟨⟨hq1, -, -, -, -, h901, -⟩, ⟨p1, hL1⟩, -⟩, -⟩ := id h1
  have hL1 : LB S1 K la (idsOfL t) p1 (h9, o9, fi, mk, nn, rp) (B + 6 * cap) := hL1
  have hx1 := hL1.obx
  have e71 := hL1.e7
  have hob1 := hob.pu hP1 trivial
  have hy1 := hy.pu hP1 trivial
  (repeat (first | (refine BW.pl rfl rfl ?_) | (refine CW.geti rfl rfl (by assumption) rfl rfl (by assumption) (fun _ => ?_)) | (refine CW.getr rfl rfl (by assumption) rfl rfl (by assumption) ?_)))
  refine CW.c3 rfl rfl (by first | exact Or.inl rfl | exact Or.inr (tagO (by assumption) (by rfl) (by rfl)) | exact Or.inr (tagO (AdrIs.ox (by assumption)) (by rfl) (by rfl)) | exact Or.inr (tagO (PatIs.ox (by assumption)) (by rfl) (by rfl)) | exact Or.inr (tagO (Or0.ox (by assumption)) (by rfl) (by rfl))) (by first | exact Or.inl (by decide) | exact Or.inr ⟨_, rfl, by assumption⟩) rfl (C_alSet (d := d + 180) hob1 (show 0 < xs.length by omega) rfl (vOk_o hy1 rfl)) ?_
  rintro r S2 ⟨rfl, hob2, hF2⟩
  have hF2' : Fr1 S1 S2 (K 7) (0 + 6 * (cap7 - cap7)) := by rw [Nat.sub_self]; exact hF2
  have hss2 : StrsIs S2 (xs.set 0 (some y)) [x.2] := ⟨by rw [List.length_set, hxl, z]; rfl, fun j hj => by
    have hj : j < 1 := hj
    obtain rfl : j = 0 := by omega
    refine ⟨⟨y, ?_, hy1.fr hF2 ⟨oNe rfl, hy1.ne hob1 (oNe rfl)⟩⟩, ?_⟩
    · rw [List.getD_eq_getElem?_getD, List.getElem?_set_self (by omega)]; rfl
    · rw [List.getD_eq_getElem?_getD, List.getElem?_set_self (by omega)]; exact hyk⟩
  have hL2 := hL1.setList (i := 7) (rows := [x.2]) (by decide) hob1 hF2' LoX.k ⟨_, hob2, hss2, hcap⟩ (Nat.le_refl _) (by omega)
  have hX12 : XF K (fun _ => False) S1 S2 := XF.rf.f1 hF2 (fun _ => hL1.wk (by decide))
  have h2 := StW.xf (G' := ([x.2], o9, fi, mk, nn, rp)) (B' := B) h1 hk hX12 ⟨p1, hL2.le (by omega) (by omega)⟩ rfl (fun _ _ z => z)
  (repeat (refine BW.pl rfl rfl ?_))
  exact BW.ret rfl rfl (DpX.go (G := (h9, o9, fi, mk, nn, rp)) (G1 := ([x.2], o9, fi, mk, nn, rp)) h2 ⟨Nat.le_refl _, hcp⟩ (by omega) (by omega) hBm (hX1.xf hX12) LaE.rf (Int.le_refl _) ⟨[], by simp⟩)
theorem S_k (h : DpC S K F q oq ar pq dq la t x du pu re G st tu ov ru cap B Bm m od n0) (h5 : oNum od < 5) : BW (d + 183) gm_X13_doPlain 160 [some (aR q), some (aR m), none] [] S (DpX S K F q oq ar pq dq la t (x, false, du, pu, re) G st tu ov ru cap B Bm (.inr ((x, false, du, pu, re), setM G (fup G.2.2.2.1 (oNum od).toNat (some x.1))))) := by
  obtain ⟨hW, hk, hw, h40, hO, hod, ⟨hcp, hdl⟩, hn, hBm⟩ := h
  obtain ⟨hm, h48, h49⟩ := hO.nm
  have hnm := hod.1
  obtain ⟨h9, o9, fi, mk, nn, rp⟩ := G
  obtain ⟨hxR, hxo, y, hx44, hy, hyk⟩ := hW.wrow
  obtain ⟨⟨⟨hq, -, -, -, h82, h90, -⟩, ⟨p, hL⟩, -⟩, h85, h86, h87⟩ := id hW
  have h86 : Fe S 86 q (some (la x.1)) := h86
  have hL : LB S K la (idsOfL t) p (h9, o9, fi, mk, nn, rp) (B + 6 * cap) := hL
  have hx := hL.obx
  have e6 := hL.e6
  have htt := hL.tt
  obtain ⟨M, hM, hMj⟩ := hL.marks
  (repeat (first | (refine BW.pl rfl rfl ?_) | (refine CW.geti rfl rfl (by assumption) rfl rfl (by assumption) (fun _ => ?_)) | (refine CW.getr rfl rfl (by assumption) rfl rfl (by assumption) ?_)))
  refine CW.e1 rfl rfl (by first | exact Or.inl rfl | exact Or.inr (tagO (by assumption) (by rfl) (by rfl)) | exact Or.inr (tagO (AdrIs.ox (by assumption)) (by rfl) (by rfl)) | exact Or.inr (tagO (PatIs.ox (by assumption)) (by rfl) (by rfl)) | exact Or.inr (tagO (Or0.ox (by assumption)) (by rfl) (by rfl))) (by first | exact Or.inl (by decide) | exact Or.inr ⟨_, rfl, by assumption⟩) rfl (B_intOf ⟨by omega, by omega⟩) ?_
  (repeat (first | (refine BW.pl rfl rfl ?_) | (refine CW.geti rfl rfl (by assumption) rfl rfl (by assumption) (fun _ => ?_)) | (refine CW.getr rfl rfl (by assumption) rfl rfl (by assumption) ?_)))
  refine CW.c3 rfl rfl (by first | exact Or.inl rfl | exact Or.inr (tagO (by assumption) (by rfl) (by rfl)) | exact Or.inr (tagO (AdrIs.ox (by assumption)) (by rfl) (by rfl)) | exact Or.inr (tagO (PatIs.ox (by assumption)) (by rfl) (by rfl)) | exact Or.inr (tagO (Or0.ox (by assumption)) (by rfl) (by rfl))) (by first | exact Or.inl (by decide) | exact Or.inr ⟨_, rfl, by assumption⟩) rfl (C_tmPut (d := d + 176) hM ⟨by omega, by omega⟩ (vOk_o hxo rfl) (by omega)) ?_
  rintro r S1 ⟨rfl, hM1, hF1⟩
  have hL1 : LB S1 K la (idsOfL t) p (setM (h9, o9, fi, mk, nn, rp) (fup mk (oNum od).toNat (some x.1))) (B + 6 * cap + 19) := by
    refine hL.setMk hF1 LoX.k ⟨_, hM1, fun k hk => ?_⟩ (by omega)
    obtain ⟨c1, c2⟩ := hMj k hk
    show upM M (oNum od) (some (la x.1)) k = (fup mk (oNum od).toNat (some x.1) k).map la ∧ _
    unfold upM fup
    by_cases e : k = (oNum od).toNat
    · rw [if_pos (by omega), if_pos e]
      exact ⟨rfl, fun y hy => by cases hy; exact hxR⟩
    · rw [if_neg (by omega), if_neg e]
      exact ⟨c1, c2⟩
  have hX1 : XF K (fun _ => False) S S1 := XF.rf.f1 hF1 (fun _ => hL.wk (by decide))
  have h1 := StW.xf (G' := (h9, o9, fi, fup mk (oNum od).toNat (some x.1), nn, rp)) (B' := B + 19) hW hk hX1 ⟨p, hL1.le (by omega) (by omega)⟩ rfl (fun _ _ z => z)
  (repeat (refine BW.pl rfl rfl ?_))
  exact BW.ret rfl rfl (DpX.go (G := (h9, o9, fi, mk, nn, rp)) (G1 := (h9, o9, fi, fup mk (oNum od).toNat (some x.1), nn, rp)) h1 ⟨Nat.le_refl _, hcp⟩ (by omega) (by omega) hBm (XS.of hX1) LaE.rf (Int.le_refl _) ⟨[], by simp⟩)
theorem S_w (h : DpC S K F q oq ar pq dq la t x du pu re G st tu ov ru cap B Bm m od n0) (h4 : oNum od < 4) : BW (d + 183) gm_X13_doPlain 182 [some (aR q), some (aR m), none] [] S (DpX S K F q oq ar pq dq la t (x, false, du, pu, re) G st tu ov ru cap B Bm (if (G.2.2.1 (oNum od).toNat).length = 40 then .inl 4 else .inr ((x, false, du, pu, re), (G.1, G.2.1, fup G.2.2.1 (oNum od).toNat (G.2.2.1 (oNum od).toNat ++ [x.2]), G.2.2.2)))) := by
  obtain ⟨hW, hk, hw, h40, hO, hod, ⟨hcp, hdl⟩, hn, hBm⟩ := h
  obtain ⟨hm, h48, h49⟩ := hO.nm
  have hnm := hod.1
  obtain ⟨h9, o9, fi, mk, nn, rp⟩ := G
  obtain ⟨hxR, hxo, y, hx44, hy, hyk⟩ := hW.wrow
  obtain ⟨⟨⟨hq, -, -, -, h82, h90, -⟩, ⟨p, hL⟩, -⟩, h85, h86, h87⟩ := id hW
  have h86 : Fe S 86 q (some (la x.1)) := h86
  have hL : LB S K la (idsOfL t) p (h9, o9, fi, mk, nn, rp) (B + 6 * cap) := hL
  have hx := hL.obx
  have htt := hL.tt
  obtain ⟨j, hj⟩ : ∃ j : Nat, oNum od = j := ⟨(oNum od).toNat, by omega⟩
  have ej : (oNum od).toNat = j := by omega
  rw [ej]
  rw [hj] at h49
  have hj4 : j < 4 := by omega
  obtain ⟨e9, cf, hfs⟩ := hL.files
  obtain ⟨cap0, xs, hob, hss, hcap0⟩ := hL.file hj4
  have hss : StrsIs S xs (fi j) := hss
  have hxl := hss.1
  have hf40 : (fi j).length ≤ 40 := (hw.ff j).1
  show BW (d + 183) gm_X13_doPlain 182 [some (aR q), some (aR m), none] [] S (DpX S K F q oq ar pq dq la t (x, false, du, pu, re) (h9, o9, fi, mk, nn, rp) st tu ov ru cap B Bm (if (fi j).length = 40 then .inl 4 else .inr ((x, false, du, pu, re), (h9, o9, fup fi j (fi j ++ [x.2]), mk, nn, rp))))
  (repeat (first | (refine BW.pl rfl rfl ?_) | (refine CW.geti rfl rfl (by assumption) rfl rfl (by assumption) (fun _ => ?_)) | (refine CW.getr rfl rfl (by assumption) rfl rfl (by assumption) ?_)))
  refine CW.e2 rfl rfl (by first | exact Or.inl rfl | exact Or.inr (tagO (by assumption) (by rfl) (by rfl)) | exact Or.inr (tagO (AdrIs.ox (by assumption)) (by rfl) (by rfl)) | exact Or.inr (tagO (PatIs.ox (by assumption)) (by rfl) (by rfl)) | exact Or.inr (tagO (Or0.ox (by assumption)) (by rfl) (by rfl))) (by first | exact Or.inl (by decide) | exact Or.inr ⟨_, rfl, by assumption⟩) rfl (C_alGet (d := d + 180) hfs (show j < 4 from hj4) (fil_get hj4) rfl) ?_
  refine CW.castS rfl hob rfl rfl rfl ?_
  refine CW.e1 rfl rfl (by first | exact Or.inl rfl | exact Or.inr (tagO (by assumption) (by rfl) (by rfl)) | exact Or.inr (tagO (AdrIs.ox (by assumption)) (by rfl) (by rfl)) | exact Or.inr (tagO (PatIs.ox (by assumption)) (by rfl) (by rfl)) | exact Or.inr (tagO (Or0.ox (by assumption)) (by rfl) (by rfl))) (by first | exact Or.inl (by decide) | exact Or.inr ⟨_, rfl, by assumption⟩) rfl (B_alSize hob) ?_
  rw [hxl]
  (repeat (refine BW.pl rfl rfl ?_))
  by_cases z : (fi j).length = 40
  · rw [if_pos z]
    refine BW.br rfl rfl (by first | omega | decide | (constructor <;> first | omega | decide)) (fun w => ?_) (fun w => by first | (exfalso; omega) | exact absurd w (by decide))
    (repeat (refine BW.pl rfl rfl ?_))
    refine CW.need rfl rfl (by decide) rfl (Or.inl rfl) (by decide) rfl (fun w => absurd w (by decide)) (fun _ r9 S9 hT9 => ?_)
    exact hW.stR XS.rf (by omega) hBm.2 hT9
  rw [if_neg z]
  refine BW.br rfl rfl (by first | omega | decide | (constructor <;> first | omega | decide)) (fun w => by first | (exfalso; omega) | exact absurd w (by decide)) (fun w => ?_)
  (repeat (refine BW.pl rfl rfl ?_))
  refine CW.need rfl rfl (by decide) rfl (Or.inr rfl) (by decide) rfl (fun _ => ?_) (fun w => absurd w (by decide))
  (repeat (first | (refine BW.pl rfl rfl ?_) | (refine CW.geti rfl rfl (by assumption) rfl rfl (by assumption) (fun _ => ?_)) | (refine CW.getr rfl rfl (by assumption) rfl rfl (by assumption) ?_)))
  refine CW.e2 rfl rfl (by first | exact Or.inl rfl | exact Or.inr (tagO (by assumption) (by rfl) (by rfl)) | exact Or.inr (tagO (AdrIs.ox (by assumption)) (by rfl) (by rfl)) | exact Or.inr (tagO (PatIs.ox (by assumption)) (by rfl) (by rfl)) | exact Or.inr (tagO (Or0.ox (by assumption)) (by rfl) (by rfl))) (by first | exact Or.inl (by decide) | exact Or.inr ⟨_, rfl, by assumption⟩) rfl (C_alGet (d := d + 180) hfs (show j < 4 from hj4) (fil_get hj4) rfl) ?_
  refine CW.castS rfl hob rfl rfl rfl ?_
  (repeat (first | (refine BW.pl rfl rfl ?_) | (refine CW.geti rfl rfl (by assumption) rfl rfl (by assumption) (fun _ => ?_)) | (refine CW.getr rfl rfl (by assumption) rfl rfl (by assumption) ?_)))
  refine CW.c2 rfl rfl (by first | exact Or.inl rfl | exact Or.inr (tagO (by assumption) (by rfl) (by rfl)) | exact Or.inr (tagO (AdrIs.ox (by assumption)) (by rfl) (by rfl)) | exact Or.inr (tagO (PatIs.ox (by assumption)) (by rfl) (by rfl)) | exact Or.inr (tagO (Or0.ox (by assumption)) (by rfl) (by rfl))) (by first | exact Or.inl (by decide) | exact Or.inr ⟨_, rfl, by assumption⟩) rfl (C_alAdd (d := d + 177) hob (vOk_o hy rfl) (by omega) (by omega)) ?_
  rintro r S1 ⟨rfl, cap', hob1, hF1, hc1, hc2⟩
  have hss1 : StrsIs S1 (xs ++ [some y]) (fi j ++ [x.2]) := (hss.fr hF1 (NoS.one hob rfl)).app ⟨⟨y, rfl, hy.fr hF1 ⟨oNe rfl, hy.ne hob (oNe rfl)⟩⟩, hyk⟩
  have hL1 := hL.setList (i := 20 + j) (fil_ix hj4) hob hF1 LoX.k ⟨_, hob1, hss1, by omega⟩ hc1 (by omega)
  rw [fil_set hj4] at hL1
  have hX1 : XF K (fun _ => False) S S1 := XF.rf.f1 hF1 (fun _ => hL.wk (by have := fil_ix hj4; revert this; unfold lIx kCh; simp; omega))
  have h1 := StW.xf (G' := (h9, o9, fup fi j (fi j ++ [x.2]), mk, nn, rp)) (B' := B + 1) hW hk hX1 ⟨p, hL1.le (by omega) (by omega)⟩ rfl (fun _ _ z => z)
  (repeat (refine BW.pl rfl rfl ?_))
  exact BW.ret rfl rfl (DpX.go (G := (h9, o9, fi, mk, nn, rp)) (G1 := (h9, o9, fup fi j (fi j ++ [x.2]), mk, nn, rp)) h1 ⟨Nat.le_refl _, hcp⟩ (by omega) (by omega) hBm (XS.of hX1) LaE.rf (Int.le_refl _) ⟨[], by simp⟩)
theorem S_ch (h : DpC S K F q oq ar pq dq la t x du pu re G st tu ov ru cap B Bm m od n0) (hac : oAct od = 115 ∨ oAct od = 122 ∨ oAct od = 62 ∨ oAct od = 60) : BW (d + 183) gm_X13_doPlain 214 [some (aR q), some (aR m), none] [] S (DpX S K F q oq ar pq dq la t (x, false, du, pu, re) G st tu ov ru cap B Bm (match sChg od x.2 with
    | none => .inl 4
    | some (r, b) => .inr (stRow (x, false, du, pu, re) r, setRG G (G.2.2.2.2.2 || b)))) := by
  obtain ⟨hW, hk, hw, h40, hO, hod, ⟨hcp, hdl⟩, hn, hBm⟩ := h
  obtain ⟨hm, h48, h49⟩ := hO.nm
  obtain ⟨h9, o9, fi, mk, nn, rp⟩ := G
  obtain ⟨hxR, hxo, y, hx44, hy, hyk⟩ := hW.wrow
  have hx30 := hw.x30
  obtain ⟨⟨⟨hq, -, -, -, h82, h90, -⟩, ⟨p, hL⟩, -⟩, h85, h86, h87⟩ := id hW
  have h86 : Fe S 86 q (some (la x.1)) := h86
  have hL : LB S K la (idsOfL t) p (h9, o9, fi, mk, nn, rp) (B + 6 * cap) := hL
  have hx := hL.obx
  have hC : LD S S K la p (h9, o9, fi, mk, nn, rp) (B + 6 * cap) 0 0 t [] (fun _ => False) := hL
  (repeat (first | (refine BW.pl rfl rfl ?_) | (refine CW.geti rfl rfl (by assumption) rfl rfl (by assumption) (fun _ => ?_)) | (refine CW.getr rfl rfl (by assumption) rfl rfl (by assumption) ?_)))
  refine CW.x3 rfl rfl (by first | exact Or.inl rfl | exact Or.inr (tagO (by assumption) (by rfl) (by rfl)) | exact Or.inr (tagO (AdrIs.ox (by assumption)) (by rfl) (by rfl)) | exact Or.inr (tagO (PatIs.ox (by assumption)) (by rfl) (by rfl)) | exact Or.inr (tagO (Or0.ox (by assumption)) (by rfl) (by rfl))) (by first | exact Or.inl (by decide) | exact Or.inr ⟨_, rfl, by assumption⟩) rfl rfl (L_changedB (d := d + 1) hC hk.1 hO hod.2.2.1 hac hy hyk hx30 (by omega)) ?_ ?_
  · intro r S1 h1
    revert h1
    cases sChg od x.2 with
    | none =>
      rintro ⟨S2, rp2, _, _, q9, e9, _⟩
      cases e9
    | some rb =>
      obtain ⟨r2, b⟩ := rb
      rintro ⟨y2, e1, hy2, hyk2, hC1, hX1⟩
      cases e1
      have hL1 : LB S1 K la (idsOfL t) p (h9, o9, fi, mk, nn, rp || b) (B + 6 * cap + 58) := hC1
      have h1 := StW.xf (G' := (h9, o9, fi, mk, nn, rp || b)) (B' := B + 58) hW hk hX1 ⟨p, hL1.le (by omega) (by omega)⟩ rfl (fun _ _ z => z)
      have hw1 : WS n0 (x, false, du, pu, re) (h9, o9, fi, mk, nn, rp || b) := hw.row1 (r := x.2) (hw.tt.2.1 x (by show x ∈ pu ++ [x] ++ re; simp)).2
      obtain ⟨-, hxo1, -⟩ := h1.wrow
      first | (refine CW.putr rfl rfl (by assumption) rfl (by decide) (fun S2 hP2 h442 => ?_)) | (refine CW.puti rfl (by assumption) rfl (by decide) (by first | exact Or.inl ⟨rfl, by first | omega | decide | (constructor <;> first | omega | decide)⟩ | exact Or.inr (Or.inl ⟨rfl, by first | omega | decide | (constructor <;> first | omega | decide)⟩) | exact Or.inr (Or.inr (Or.inl ⟨rfl, by first | omega | decide | (constructor <;> first | omega | decide)⟩)) | exact Or.inr (Or.inr (Or.inr ⟨rfl, by first | omega | decide | (constructor <;> first | omega | decide)⟩))) (fun S2 hP2 h442 => ?_))
      have h2 := h1.setRow hk hw1.tt.1 hP2 h442 ⟨⟨y2, rfl, hy2⟩, hyk2⟩
      (repeat (refine BW.pl rfl rfl ?_))
      exact BW.ret rfl rfl (DpX.go (G := (h9, o9, fi, mk, nn, rp)) (G1 := (h9, o9, fi, mk, nn, rp || b)) h2 ⟨Nat.le_refl _, hcp⟩ (by omega) (by omega) hBm (XA.rowP (XS.of hX1) hP2) LaE.rf (Int.le_refl _) ⟨[], by simp⟩)
  · intro E q9 S1 h1
    revert h1
    cases sChg od x.2 with
    | none =>
      rintro ⟨S2, rp2, hC2, hX2, h9'⟩
      have hL2 : LB S2 K la (idsOfL t) p (h9, o9, fi, mk, nn, rp2) (B + 6 * cap) := hC2
      exact ⟨S2, la, t, p, _, hL2.le (by omega) hBm.2, XS.of hX2, LaE.rf, Int.le_refl _, ⟨[], by simp⟩, h9'⟩
    | some rb =>
      obtain ⟨r2, b⟩ := rb
      rintro ⟨y2, e1, _⟩
      cases e1
end DP
