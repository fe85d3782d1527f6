-- C
set_option maxRecDepth 100000
/-! LINEORDERS: a stream: isAt, runs, holds, comesTo -/
/-- a run as fields of an order; L: how many lines -/
def RnI (S : BS) (L m : Nat) (od : SOrd0) (R : RG) : Prop := Fi S 57 m (R.1 : Int) ∧ Fi S 58 m (b2i R.2.1) ∧ Fi S 59 m (b2i R.2.2) ∧ (∀ b, oSnd od = some b → stNumr b = true → R.2.2 = true → Fi S 60 m (stVal L b)) ∧ (R.2.1 = true → Fi S 61 m (b2i (!R.2.2)))
/-- what is refused within a stream -/
def StR (S : BS) (K : Nat → Nat) (F : Nat → Prop) (q pq dq : Nat) (la : Int → Nat) (n : Int) (o : List (List Int)) (Bm w : Nat) (r : GO) (S' : BS) : Prop := ∃ (S1 : BS) (la1 : Int → Nat) (t1 : List SLine) (p : Nat) (G : BG), LB S1 K la1 (idsOfL t1) p G Bm ∧ XS K F (WSt q pq dq) S S1 ∧ LaE la la1 n ∧ n ≤ G.2.2.2.2.1 ∧ (∃ ex, G.2.1 = o ++ ex) ∧ Thr9 11 78 w S1 r S'
theorem AdrIs.ox {S : BS} {F : Nat → Prop} {a : Nat} {ad : SAdr} (h : AdrIs S F a ad) : Ob S a (oOwn 2) := h.2.1
theorem PatIs.ox {S : BS} {F : Nat → Prop} {p : Nat} {pt : SPat} (h : PatIs S F p pt) : Ob S p (oOwn 9) := by obtain ⟨_, _, _, _, _, _, _, _, g, _⟩ := h; exact g
theorem Or0.ox {S : BS} {F : Nat → Prop} {z : Prop} {m : Nat} {od : SOrd0} (h : Or0 S F z m od) : Ob S m (oOwn 7) := h.2.1
section AT
variable {d n m q oq ar pq dq a b f y cap c i k B B' st tu p Bm st' tu' : Nat} {S S' S1 S2 : BS} {K : Nat → Nat} {V F F' W9 W8 : Nat → Prop} {o : Obj} {la la1 : Int → Nat} {t pu re rs re' : List SLine} {x z : SLine} {g ov rp run ov' : Bool} {du rows : List (List Int)} {W : WG} {G : BG} {ru ru' : Nat → Nat → RG} {R : RG} {r : Option Nat} {v nn n0 : Int} {s row : List Int} {h9 o9 : List (List Int)} {fi : Nat → List (List Int)} {mk : Nat → Option Int} {ad a1 a2 : SAdr} {od : SOrd0} {zz : Prop} {w : Nat} {rg : GO}
theorem XS.mono (h : XS K F W9 S S') (hF : ∀ m, F m → F' m) (hW : ∀ m, W9 m → W8 m) : XS K F' W8 S S' := fun P hP hS => h P ⟨hP.1, fun S S' m c o hm => hP.2.1 S S' m c o (hW m hm), fun S S' f m hm => hP.2.2 S S' f m (hF m hm)⟩ hS
theorem RnI.xf (h : RnI S n m od R) (hX : XF K V S S') (hm : Ob S m (oOwn 7)) (hk : KoM K m) : RnI S' n m od R := by
  obtain ⟨h1, h2, h3, h4, h5⟩ := h
  exact ⟨hX.fi hm hk (oNe rfl) rfl h1 (by decide), hX.fi hm hk (oNe rfl) rfl h2 (by decide), hX.fi hm hk (oNe rfl) rfl h3 (by decide), fun b e1 e2 e3 => hX.fi hm hk (oNe rfl) rfl (h4 b e1 e2 e3) (by decide), fun e => hX.fi hm hk (oNe rfl) rfl (h5 e) (by decide)⟩
/-- runs of other orders -/
theorem RnI.xS (h : RnI S n m od R) (hX : XS K F W9 S S') (hm : Ob S m (oOwn 7)) (hk : KoM K m) (hF : ¬ F m) (hW : ¬ W9 m) : RnI S' n m od R := (hX (fun S => RnI S n m od R ∧ Ob S m (oOwn 7)) ⟨fun _ _ hX h => ⟨h.1.xf hX h.2 hk, (hX.ob h.2 hk (oNe rfl) rfl).1⟩, fun _ _ m' _ _ hm' _ _ hF9 h => by
    have hn : m ≠ m' := fun z => hW (z ▸ hm')
    obtain ⟨⟨h1, h2, h3, h4, h5⟩, h6⟩ := h
    have e := h6.old (oNe rfl)
    exact ⟨⟨h1.fr hF9 ⟨⟨e, by decide⟩, hn⟩, h2.fr hF9 ⟨⟨e, by decide⟩, hn⟩, h3.fr hF9 ⟨⟨e, by decide⟩, hn⟩, fun b e1 e2 e3 => (h4 b e1 e2 e3).fr hF9 ⟨⟨e, by decide⟩, hn⟩, fun e1 => (h5 e1).fr hF9 ⟨⟨e, by decide⟩, hn⟩⟩, h6.fr hF9 ⟨oNe rfl, hn⟩⟩, fun _ _ f m' hm' _ _ _ hP h => by
    have hn : m ≠ m' := fun z => hF (z ▸ hm')
    obtain ⟨⟨h1, h2, h3, h4, h5⟩, h6⟩ := h
    exact ⟨⟨h1.pu hP (Or.inr hn), h2.pu hP (Or.inr hn), h3.pu hP (Or.inr hn), fun b e1 e2 e3 => (h4 b e1 e2 e3).pu hP (Or.inr hn), fun e1 => (h5 e1).pu hP (Or.inr hn)⟩, h6.pu hP trivial⟩⟩ ⟨h, hm⟩).1
theorem Or0.fs (hO : Or0 S F zz m od) (h : oFst od = some ad) : ∃ b, Fe S 46 m (some b) ∧ AdrIs S F b ad := by
  obtain ⟨_, _, _, ⟨r, h1, h2⟩, _⟩ := hO
  have h2 : AdO S F r (oFst od) := h2
  rw [h] at h2
  obtain ⟨b, rfl, h3⟩ := h2
  exact ⟨b, h1, h3⟩
theorem Or0.sn (hO : Or0 S F zz m od) (h : oSnd od = some ad) : ∃ b, Fe S 47 m (some b) ∧ AdrIs S F b ad := by
  obtain ⟨_, _, _, _, ⟨r, h1, h2⟩, _⟩ := hO
  have h2 : AdO S F r (oSnd od) := h2
  rw [h] at h2
  obtain ⟨b, rfl, h3⟩ := h2
  exact ⟨b, h1, h3⟩
/-- a field of an order -/
theorem StO.puO (h : StO S K la q oq ar pq dq t) (hP : Pu S S' f m) (hm : Ob S m (oOwn 7)) : StO S' K la q oq ar pq dq t := by
  obtain ⟨h1, h2, h3, h4, h5, h6, h7⟩ := h
  have hn : q ≠ m := h1.ne hm (ownNe rfl)
  exact ⟨h1.pu hP trivial, h2.pu hP (Or.inr hn), h3.pu hP (Or.inr hn), h4.pu hP (Or.inr hn), h5.pu hP (Or.inr hn), h6.pu hP (Or.inr hn), h7.pu hP trivial⟩
theorem StW.puO (h : StW S K la q oq ar pq dq t (W, G, st, tu, ov, ru) cap B) (hP : Pu S S' f m) (hm : Ob S m (oOwn 7)) (km : KoM K m) : StW S' K la q oq ar pq dq t (W, G, st, tu, ov, ru') cap B := by
  obtain ⟨⟨h1, ⟨p, h2⟩, ⟨mc, h3⟩, ⟨xs, h4, h5⟩, ⟨⟨g1, g2, g3, g4⟩, g5⟩, h7⟩, h8, h9, h10⟩ := h
  have hn : q ≠ m := h1.1.ne hm (ownNe rfl)
  exact ⟨⟨h1.puO hP hm, ⟨p, h2.puN hP km hm (ownNe rfl)⟩, ⟨mc, h3.pu hP trivial⟩, ⟨xs, h4.pu hP trivial, h5.pu hP trivial⟩, ⟨⟨g1.pu hP (Or.inr hn), g2.pu hP (Or.inr hn), g3.pu hP (Or.inr hn), g4.pu hP (Or.inr hn)⟩, g5⟩, RowsI.puN h7 hP km hm (ownNe rfl)⟩, h8.pu hP (Or.inr hn), h9.pu hP (Or.inr hn), h10.pu hP (Or.inr hn)⟩
/-- a field of the stream -/
theorem StO.puq (h : StO S K la q oq ar pq dq t) (hP : Pu S S' f q) (hf : 83 ≤ f ∧ f ≤ 89) : StO S' K la q oq ar pq dq t := by
  obtain ⟨h1, h2, h3, h4, h5, h6, h7⟩ := h
  exact ⟨h1.pu hP trivial, h2.pu hP (Or.inl (by omega)), h3.pu hP (Or.inl (by omega)), h4.pu hP (Or.inl (by omega)), h5.pu hP (Or.inl (by omega)), h6.pu hP (Or.inl (by omega)), h7.pu hP trivial⟩
theorem StS.puq (h : StS S K la q oq ar pq dq t ((x, g, du, pu, re), G, st, tu, ov, ru) rs cap B) (hk : StK K F q ar pq dq) (hP : Pu S S' f q) (hf : 83 ≤ f ∧ f ≤ 89) (hN : StN S' q t re' st' tu' ov') {x' : SLine} {g' : Bool} : StS S' K la q oq ar pq dq t ((x', g', du, pu, re'), G, st', tu', ov', ru') rs cap B := by
  obtain ⟨h1, ⟨p, h2⟩, ⟨mc, h3⟩, ⟨xs, h4, h5⟩, h6, h7⟩ := h
  exact ⟨h1.puq hP hf, ⟨p, h2.puN hP hk.2.1.1 h1.1 (ownNe rfl)⟩, ⟨mc, h3.pu hP trivial⟩, ⟨xs, h4.pu hP trivial, h5.pu hP trivial⟩, hN, RowsI.puN h7 hP hk.2.1.1 h1.1 (ownNe rfl)⟩
theorem StN.puq (h : StN S q t re st tu ov) (hP : Pu S S' f q) (hf : f = 85 ∨ f = 86 ∨ f = 87) : StN S' q t re st tu ov := by
  obtain ⟨⟨h1, h2, h3, h4⟩, h5⟩ := h
  exact ⟨⟨h1.pu hP (Or.inl (by omega)), h2.pu hP (Or.inl (by omega)), h3.pu hP (Or.inl (by omega)), h4.pu hP (Or.inl (by omega))⟩, h5⟩
theorem StN.stp (h : StN S q t re st tu ov) (hP : Pu S S' 89 q) (hv : Fi S' 89 q ((st + 1 : Nat) : Int)) : StN S' q t re (st + 1) tu ov := by
  obtain ⟨⟨h1, h2, h3, h4⟩, h5⟩ := h
  exact ⟨⟨h1.pu hP (Or.inl (by decide)), h2.pu hP (Or.inl (by decide)), h3.pu hP (Or.inl (by decide)), hv⟩, h5⟩
theorem StWk.puq (h : StWk S la q t W) (hP : Pu S S' f q) (hf : f = 83 ∨ f = 84 ∨ f = 88 ∨ f = 89) : StWk S' la q t W := ⟨h.1.pu hP (Or.inl (by omega)), h.2.1.pu hP (Or.inl (by omega)), h.2.2.pu hP (Or.inl (by omega))⟩
theorem StW.stR (h : StW S1 K la q oq ar pq dq t (W, G, st, tu, ov, ru) cap B) (hX : XS K F (WSt q pq dq) S S1) (hB : B + 6 * cap ≤ Bm) (hBm : Bm ≤ 20000000) (hT : Thr9 11 78 w S1 rg S') : StR S K F q pq dq la G.2.2.2.2.1 G.2.1 Bm w rg S' := by
  obtain ⟨⟨-, ⟨p, h2⟩, -⟩, -⟩ := h
  exact ⟨S1, la, t, p, G, h2.le hB hBm, hX, LaE.rf, Int.le_refl _, ⟨[], by simp⟩, hT⟩
theorem StR.pre {la2 : Int → Nat} {n2 : Int} {o2 : List (List Int)} (hX : XS K F (WSt q pq dq) S S1) (hE : LaE la la2 nn) (hn : nn ≤ n2) (ho : ∃ ex, o2 = o9 ++ ex) (h : StR S1 K F q pq dq la2 n2 o2 Bm w rg S') : StR S K F q pq dq la nn o9 Bm w rg S' := by
  obtain ⟨S3, la1, t1, p, G, g1, g2, g3, g4, ⟨ex, g5⟩, g6⟩ := h
  obtain ⟨ex2, ho⟩ := ho
  exact ⟨S3, la1, t1, p, G, g1, hX.tr g2, hE.tr g3 hn, Int.le_trans hn g4, ⟨ex2 ++ ex, by rw [g5, ho, List.append_assoc]⟩, g6⟩
theorem StW.wrow (h : StW S K la q oq ar pq dq t ((x, false, du, pu, re), (h9, o9, fi, mk, nn, rp), st, tu, ov, ru) cap B) : (0 ≤ x.1 ∧ x.1 < nn) ∧ Ob S (la x.1) (oOwn 6) ∧ ∃ y, Fe S 44 (la x.1) (some y) ∧ Ob S y (oStr x.2) ∧ okS (some y) := by
  obtain ⟨⟨-, -, -, -, -, h7⟩, -⟩ := h
  have hm : x ∈ allL (x, false, du, pu, re) := by show x ∈ pu ++ [x] ++ re; simp
  obtain ⟨h1, h2, r, h3, ⟨y, rfl, h4⟩, h5⟩ := h7 x hm
  exact ⟨h1, h2, y, h3, h4, h5⟩
theorem WS.x30 (hw : WS n0 (x, false, du, pu, re) (h9, o9, fi, mk, nn, rp)) : x.2.length ≤ 30 := (hw.tt.2.1 x (by show x ∈ pu ++ [x] ++ re; simp)).2.1
theorem AdK.val (hA : AdK ad) (h40 : t.length ≤ 40) : -2000 < stVal t.length ad ∧ stVal t.length ad < 2100 := by
  obtain ⟨_, _, h1, h2, _⟩ := hA
  unfold stVal
  split <;> constructor <;> omega
theorem L_isAt (h : StW S K la q oq ar pq dq t ((x, false, du, pu, re), (h9, o9, fi, mk, nn, rp), st, tu, ov, ru) cap B) (hk : StK K F q ar pq dq) (hw : WS n0 (x, false, du, pu, re) (h9, o9, fi, mk, nn, rp)) (h40 : t.length ≤ 40) (hA : AdrIs S F a ad) (hAK : AdK ad) : BMr (d + 182) gk_X13_isAt [aR q, aR a] S (fun r S' => r = vI (b2i (stAt t.length (x, false, du, pu, re) (h9, o9, fi, mk, nn, rp) ad)) ∧ XF K (fun _ => False) S S' ∧ StW S' K la q oq ar pq dq t ((x, false, du, pu, re), (h9, o9, fi, mk, nn, rp), st, tu, ov, ru) cap B) := by
  obtain ⟨hxR, hxo, y, hx44, hy, hyk⟩ := h.wrow
  have hx30 := hw.x30
  have h0 := h
  obtain ⟨⟨hO, ⟨p, hL⟩, -⟩, h85, h86, h87⟩ := h0
  obtain ⟨hq, h79, h80, h81, h82, h90, har⟩ := id hO
  have hL : LB S K la (idsOfL t) p (h9, o9, fi, mk, nn, rp) (B + 6 * cap) := hL
  have h85 : Fi S 85 q ((t.length - re.length : Nat) : Int) := h85
  have h86 : Fe S 86 q (some (la x.1)) := h86
  obtain ⟨f, ha, h18, h19, h21, h22, r20, h20, hp20⟩ := id hA
  have hx := hL.obx
  have e6 := hL.e6
  have hv := hAK.val h40
  obtain ⟨hkd, h39, hnr, hmr, hpk⟩ := hAK
  refine BM.of rfl rfl rfl ?_
  have fin1 : ∀ (S2 : BS) (bb : Bool), stAt t.length (x, false, du, pu, re) (h9, o9, fi, mk, nn, rp) ad = bb → XF K (fun _ => False) S S2 → StW S2 K la q oq ar pq dq t ((x, false, du, pu, re), (h9, o9, fi, mk, nn, rp), st, tu, ov, ru) cap B → ∃ v, (.inl (some (.inl (b2i bb))) : GO) = .inl v ∧ (v = vI (b2i (stAt t.length (x, false, du, pu, re) (h9, o9, fi, mk, nn, rp) ad)) ∧ XF K (fun _ => False) S S2 ∧ StW S2 K la q oq ar pq dq t ((x, false, du, pu, re), (h9, o9, fi, mk, nn, rp), st, tu, ov, ru) cap B) := fun S2 bb e hX hS => ⟨_, rfl, by rw [e], hX, hS⟩
  have num : stNumr ad = true → BW (d + 181) gm_X13_isAt 3 [some (aR q), some (aR a)] [] S (fun r S' => ∃ v, r = .inl v ∧ (v = vI (b2i (stAt t.length (x, false, du, pu, re) (h9, o9, fi, mk, nn, rp) ad)) ∧ XF K (fun _ => False) S S' ∧ StW S' K la q oq ar pq dq t ((x, false, du, pu, re), (h9, o9, fi, mk, nn, rp), st, tu, ov, ru) cap B)) := fun hn => by
    have e : stAt t.length (x, false, du, pu, re) (h9, o9, fi, mk, nn, rp) ad = decide (((t.length - re.length : Nat) : Int) = stVal t.length ad) := by
      unfold stAt
      rw [if_pos hn]
    (repeat (first | (refine BW.pl rfl rfl ?_) | (refine CW.geti rfl rfl (by assumption) rfl rfl (by assumption) (fun _ => ?_)) | (refine CW.getr rfl rfl (by assumption) rfl rfl (by assumption) ?_)))
    refine CW.e2 rfl rfl (by first | exact Or.inl rfl | exact Or.inr (tagO (by assumption) (by rfl) (by rfl)) | exact Or.inr (tagO (AdrIs.ox (by assumption)) (by rfl) (by rfl)) | exact Or.inr (tagO (PatIs.ox (by assumption)) (by rfl) (by rfl)) | exact Or.inr (tagO (Or0.ox (by assumption)) (by rfl) (by rfl))) (by first | exact Or.inl (by decide) | exact Or.inr ⟨_, rfl, by assumption⟩) rfl (L_stVal (d := d + 180) hO hA ⟨⟨by omega, by omega⟩, hmr⟩ h40) ?_
    by_cases z : ((t.length - re.length : Nat) : Int) = stVal t.length ad
    · refine BW.br rfl rfl (by first | omega | decide | (constructor <;> first | omega | decide)) (fun w => by first | (exfalso; omega) | exact absurd w (by decide)) (fun w => ?_)
      (repeat (refine BW.pl rfl rfl ?_))
      exact BW.irx rfl (Or.inr (Or.inl ⟨rfl, Or.inr rfl⟩)) (fin1 S true (by rw [e]; exact decide_eq_true z) XF.rf h)
    · refine BW.br rfl rfl (by first | omega | decide | (constructor <;> first | omega | decide)) (fun w => ?_) (fun w => by first | (exfalso; omega) | exact absurd w (by decide))
      (repeat (refine BW.pl rfl rfl ?_))
      exact BW.irx rfl (Or.inr (Or.inl ⟨rfl, Or.inl rfl⟩)) (fin1 S false (by rw [e]; exact decide_eq_false z) XF.rf h)
  have pat : (ad.1 = 47 ∨ ad.1 = 63) → BW (d + 181) gm_X13_isAt 29 [some (aR q), some (aR a)] [] S (fun r S' => ∃ v, r = .inl v ∧ (v = vI (b2i (stAt t.length (x, false, du, pu, re) (h9, o9, fi, mk, nn, rp) ad)) ∧ XF K (fun _ => False) S S' ∧ StW S' K la q oq ar pq dq t ((x, false, du, pu, re), (h9, o9, fi, mk, nn, rp), st, tu, ov, ru) cap B)) := fun hn => by
    have hnn : ¬ stNumr ad = true := fun z => by
      have z : ad.1 = 48 ∨ ad.1 = 36 := of_decide_eq_true z
      omega
    have e : stAt t.length (x, false, du, pu, re) (h9, o9, fi, mk, nn, rp) ad = (mFind ad.2.2.1 x.2 0).isSome := by
      unfold stAt
      rw [if_neg hnn, if_neg (by omega), if_neg (by omega)]
    obtain ⟨pp, rfl, hP⟩ := hp20 hn
    (repeat (first | (refine BW.pl rfl rfl ?_) | (refine CW.geti rfl rfl (by assumption) rfl rfl (by assumption) (fun _ => ?_)) | (refine CW.getr rfl rfl (by assumption) rfl rfl (by assumption) ?_)))
    refine CW.c2 rfl rfl (by first | exact Or.inl rfl | exact Or.inr (tagO (by assumption) (by rfl) (by rfl)) | exact Or.inr (tagO (AdrIs.ox (by assumption)) (by rfl) (by rfl)) | exact Or.inr (tagO (PatIs.ox (by assumption)) (by rfl) (by rfl)) | exact Or.inr (tagO (Or0.ox (by assumption)) (by rfl) (by rfl))) (by first | exact Or.inl (by decide) | exact Or.inr ⟨_, rfl, by assumption⟩) rfl (P_isIn (d := d) hP (hpk hn) hy (by omega)) ?_
    rintro r S2 ⟨⟨hSc, hFR⟩, hP2, rfl⟩
    obtain ⟨hL2, hX2⟩ := LB.fnd (V := fun _ => False) hL hk.1 hSc hFR
    have h2 := StW.xf (B' := B) h hk hX2 ⟨p, hL2⟩ rfl (fun _ _ z => z)
    cases hm : (mFind ad.2.2.1 x.2 0).isSome with
    | true => exact BW.irx rfl (Or.inr (Or.inl ⟨rfl, Or.inr rfl⟩)) (fin1 S2 true (by rw [e, hm]) hX2 h2)
    | false => exact BW.irx rfl (Or.inr (Or.inl ⟨rfl, Or.inl rfl⟩)) (fin1 S2 false (by rw [e, hm]) hX2 h2)
  rcases hkd with z | z | z | z | z | z
  · rw [z] at h18
    (repeat (first | (refine BW.pl rfl rfl ?_) | (refine CW.geti rfl rfl (by assumption) rfl rfl (by assumption) (fun _ => ?_)) | (refine CW.getr rfl rfl (by assumption) rfl rfl (by assumption) ?_)))
    refine BW.sw (i' := 3) rfl rfl (by constructor <;> omega) rfl ?_
    exact num (decide_eq_true (Or.inl z))
  · rw [z] at h18
    (repeat (first | (refine BW.pl rfl rfl ?_) | (refine CW.geti rfl rfl (by assumption) rfl rfl (by assumption) (fun _ => ?_)) | (refine CW.getr rfl rfl (by assumption) rfl rfl (by assumption) ?_)))
    refine BW.sw (i' := 3) rfl rfl (by constructor <;> omega) rfl ?_
    exact num (decide_eq_true (Or.inr z))
  · rw [z] at h18
    (repeat (first | (refine BW.pl rfl rfl ?_) | (refine CW.geti rfl rfl (by assumption) rfl rfl (by assumption) (fun _ => ?_)) | (refine CW.getr rfl rfl (by assumption) rfl rfl (by assumption) ?_)))
    refine BW.sw (i' := 15) rfl rfl (by constructor <;> omega) rfl ?_
    obtain ⟨M, hM, hMj⟩ := hL.marks
    have h5 := h39 z
    have ej : ((ad.2.1.toNat : Nat) : Int) = ad.2.1 := by omega
    obtain ⟨m1, m2⟩ := hMj ad.2.1.toNat (by omega)
    rw [ej] at m1
    have m1 : M ad.2.1 = (mk ad.2.1.toNat).map la := m1
    have e : stAt t.length (x, false, du, pu, re) (h9, o9, fi, mk, nn, rp) ad = decide (mk ad.2.1.toNat = some x.1) := by
      unfold stAt
      rw [if_neg (fun y => by have y : ad.1 = 48 ∨ ad.1 = 36 := of_decide_eq_true y; omega), if_pos z]
    refine BW.big hxo rfl rfl (fun hbig => ?_)
    (repeat (first | (refine BW.pl rfl rfl ?_) | (refine CW.geti rfl rfl (by assumption) rfl rfl (by assumption) (fun _ => ?_)) | (refine CW.getr rfl rfl (by assumption) rfl rfl (by assumption) ?_)))
    refine CW.e1 rfl rfl (by first | exact Or.inl rfl | exact Or.inr (tagO (by assumption) (by rfl) (by rfl)) | exact Or.inr (tagO (AdrIs.ox (by assumption)) (by rfl) (by rfl)) | exact Or.inr (tagO (PatIs.ox (by assumption)) (by rfl) (by rfl)) | exact Or.inr (tagO (Or0.ox (by assumption)) (by rfl) (by rfl))) (by first | exact Or.inl (by decide) | exact Or.inr ⟨_, rfl, by assumption⟩) rfl (B_intOf ⟨by omega, by omega⟩) ?_
    refine CW.e2 rfl rfl (by first | exact Or.inl rfl | exact Or.inr (tagO (by assumption) (by rfl) (by rfl)) | exact Or.inr (tagO (AdrIs.ox (by assumption)) (by rfl) (by rfl)) | exact Or.inr (tagO (PatIs.ox (by assumption)) (by rfl) (by rfl)) | exact Or.inr (tagO (Or0.ox (by assumption)) (by rfl) (by rfl))) (by first | exact Or.inl (by decide) | exact Or.inr ⟨_, rfl, by assumption⟩) rfl (C_tmGet hM ⟨by omega, by omega⟩ m1) ?_
    (repeat (first | (refine BW.pl rfl rfl ?_) | (refine CW.geti rfl rfl (by assumption) rfl rfl (by assumption) (fun _ => ?_)) | (refine CW.getr rfl rfl (by assumption) rfl rfl (by assumption) ?_)))
    by_cases zx : mk ad.2.1.toNat = some x.1
    · rw [zx]
      refine CW.ane rfl (fun n h => by cases h; rw [show S.1 (la x.1) = oOwn 6 from hxo]; rfl) (fun n h => by cases h; rw [show S.1 (la x.1) = oOwn 6 from hxo]; rfl) (fun n m h _ => by cases h; exact Or.inl hbig) (fun h => absurd rfl h) (fun _ => ?_)
      (repeat (refine BW.pl rfl rfl ?_))
      exact BW.irx rfl (Or.inr (Or.inl ⟨rfl, Or.inr rfl⟩)) (fin1 S true (by rw [e]; exact decide_eq_true zx) XF.rf h)
    · have hz : (mk ad.2.1.toNat).map la ≠ some (la x.1) := fun w => by
        cases hj2 : mk ad.2.1.toNat with
        | none => rw [hj2] at w; cases w
        | some y2 =>
          rw [hj2] at w
          have w : some (la y2) = some (la x.1) := w
          exact zx (by rw [hj2, hL.lai (m2 y2 hj2) hxR (Option.some.inj w)])
      refine CW.ane rfl (fun n h => ?_) (fun n h => by cases h; rw [show S.1 (la x.1) = oOwn 6 from hxo]; rfl) (fun n m _ h => by cases h; exact Or.inr hbig) (fun _ => ?_) (fun h => absurd h hz)
      · cases hj2 : mk ad.2.1.toNat with
        | none => rw [hj2] at h; cases h
        | some y2 =>
          rw [hj2] at h
          cases h
          rw [show S.1 (la y2) = oOwn 6 from hL.la6 (m2 y2 hj2)]; rfl
      · (repeat (refine BW.pl rfl rfl ?_))
        exact BW.irx rfl (Or.inr (Or.inl ⟨rfl, Or.inl rfl⟩)) (fin1 S false (by rw [e]; exact decide_eq_false zx) XF.rf h)
  · rw [z] at h18
    (repeat (first | (refine BW.pl rfl rfl ?_) | (refine CW.geti rfl rfl (by assumption) rfl rfl (by assumption) (fun _ => ?_)) | (refine CW.getr rfl rfl (by assumption) rfl rfl (by assumption) ?_)))
    refine BW.sw (i' := 13) rfl rfl (by constructor <;> omega) rfl ?_
    have e : stAt t.length (x, false, du, pu, re) (h9, o9, fi, mk, nn, rp) ad = true := by
      unfold stAt
      rw [if_neg (fun y => by have y : ad.1 = 48 ∨ ad.1 = 36 := of_decide_eq_true y; omega), if_neg (by omega), if_pos z]
    (repeat (refine BW.pl rfl rfl ?_))
    exact BW.irx rfl (Or.inr (Or.inl ⟨rfl, Or.inr rfl⟩)) (fin1 S true e XF.rf h)
  · rw [z] at h18
    (repeat (first | (refine BW.pl rfl rfl ?_) | (refine CW.geti rfl rfl (by assumption) rfl rfl (by assumption) (fun _ => ?_)) | (refine CW.getr rfl rfl (by assumption) rfl rfl (by assumption) ?_)))
    refine BW.sw (i' := 29) rfl rfl (by constructor <;> omega) rfl ?_
    exact pat (Or.inl z)
  · rw [z] at h18
    (repeat (first | (refine BW.pl rfl rfl ?_) | (refine CW.geti rfl rfl (by assumption) rfl rfl (by assumption) (fun _ => ?_)) | (refine CW.getr rfl rfl (by assumption) rfl rfl (by assumption) ?_)))
    refine BW.sw (i' := 29) rfl rfl (by constructor <;> omega) rfl ?_
    exact pat (Or.inr z)
theorem L_runs (h : StW S K la q oq ar pq dq t ((x, false, du, pu, re), (h9, o9, fi, mk, nn, rp), st, tu, ov, ru) cap B) (hk : StK K F q ar pq dq) (hw : WS n0 (x, false, du, pu, re) (h9, o9, fi, mk, nn, rp)) (h40 : t.length ≤ 40) (hO : Or0 S F False m od) (h1 : oFst od = some a1) (h2 : oSnd od = some a2) (hA1 : AdK a1) (hA2 : AdK a2) (h59 : Fi S 59 m (b2i run)) (h60 : stNumr a2 = true → run = true → Fi S 60 m (stVal t.length a2)) : BMr (d + 183) gk_X13_runs [aR q, aR m] S (fun r S' => r = vI (b2i (stRun t.length (x, false, du, pu, re) (h9, o9, fi, mk, nn, rp) a1 a2 run).1) ∧ StW S' K la q oq ar pq dq t ((x, false, du, pu, re), (h9, o9, fi, mk, nn, rp), st, tu, ov, ru) cap B ∧ XS K (fun k => k = m) (fun _ => False) S S' ∧ (∀ v, Fi S 57 m v → Fi S' 57 m v) ∧ Or0 S' F False m od ∧ Fi S' 59 m (b2i (stRun t.length (x, false, du, pu, re) (h9, o9, fi, mk, nn, rp) a1 a2 run).2) ∧ (stNumr a2 = true → (stRun t.length (x, false, du, pu, re) (h9, o9, fi, mk, nn, rp) a1 a2 run).2 = true → Fi S' 60 m (stVal t.length a2)) ∧ ((stRun t.length (x, false, du, pu, re) (h9, o9, fi, mk, nn, rp) a1 a2 run).1 = true → Fi S' 61 m (b2i (!(stRun t.length (x, false, du, pu, re) (h9, o9, fi, mk, nn, rp) a1 a2 run).2)))) := by
  have hv := hA2.val h40
  have km := hk.1 m hO.1
  obtain ⟨htl, hrl⟩ : re.length ≤ t.length ∧ t.length ≤ 40 := ⟨h.1.2.2.2.2.1.2.2, h40⟩
  -- what is answered
  have fin : ∀ (S3 : BS) (v1 v2 : Bool), stRun t.length (x, false, du, pu, re) (h9, o9, fi, mk, nn, rp) a1 a2 run = (v1, v2) → StW S3 K la q oq ar pq dq t ((x, false, du, pu, re), (h9, o9, fi, mk, nn, rp), st, tu, ov, ru) cap B → XS K (fun k => k = m) (fun _ => False) S S3 → (∀ v, Fi S 57 m v → Fi S3 57 m v) → Or0 S3 F False m od → Fi S3 59 m (b2i v2) → (stNumr a2 = true → v2 = true → Fi S3 60 m (stVal t.length a2)) → (v1 = true → Fi S3 61 m (b2i (!v2))) → ∃ v, (.inl (some (.inl (b2i v1))) : GO) = .inl v ∧ (v = vI (b2i (stRun t.length (x, false, du, pu, re) (h9, o9, fi, mk, nn, rp) a1 a2 run).1) ∧ StW S3 K la q oq ar pq dq t ((x, false, du, pu, re), (h9, o9, fi, mk, nn, rp), st, tu, ov, ru) cap B ∧ XS K (fun k => k = m) (fun _ => False) S S3 ∧ (∀ v, Fi S 57 m v → Fi S3 57 m v) ∧ Or0 S3 F False m od ∧ Fi S3 59 m (b2i (stRun t.length (x, false, du, pu, re) (h9, o9, fi, mk, nn, rp) a1 a2 run).2) ∧ (stNumr a2 = true → (stRun t.length (x, false, du, pu, re) (h9, o9, fi, mk, nn, rp) a1 a2 run).2 = true → Fi S3 60 m (stVal t.length a2)) ∧ ((stRun t.length (x, false, du, pu, re) (h9, o9, fi, mk, nn, rp) a1 a2 run).1 = true → Fi S3 61 m (b2i (!(stRun t.length (x, false, du, pu, re) (h9, o9, fi, mk, nn, rp) a1 a2 run).2)))) := by
    intro S3 v1 v2 e g1 g2 g3 g4 g5 g6 g7
    rw [e]
    exact ⟨_, rfl, rfl, g1, g2, g3, g4, g5, g6, g7⟩
  -- an order's field is put
  have pu1 : ∀ {S2 S3 : BS} {f9 : Nat}, Pu S2 S3 f9 m → 59 ≤ f9 → f9 ≤ 61 → StW S2 K la q oq ar pq dq t ((x, false, du, pu, re), (h9, o9, fi, mk, nn, rp), st, tu, ov, ru) cap B → XS K (fun k => k = m) (fun _ => False) S S2 → (∀ v, Fi S 57 m v → Fi S2 57 m v) → Or0 S2 F False m od → StW S3 K la q oq ar pq dq t ((x, false, du, pu, re), (h9, o9, fi, mk, nn, rp), st, tu, ov, ru) cap B ∧ XS K (fun k => k = m) (fun _ => False) S S3 ∧ (∀ v, Fi S 57 m v → Fi S3 57 m v) ∧ Or0 S3 F False m od := by
    intro S2 S3 f9 hP hf1 hf2 g1 g2 g3 g4
    have hm2 := g4.2.1
    exact ⟨g1.puO hP hm2 km, g2.pu rfl hm2 ⟨by omega, hf2⟩ hP, fun v hv => (g3 v hv).pu hP (Or.inl (by omega)), g4.puF hP hm2 ⟨by omega, hf2⟩⟩
  -- it isn't running
  have at53 : ∀ (S2 : BS), stRun t.length (x, false, du, pu, re) (h9, o9, fi, mk, nn, rp) a1 a2 run = (stAt t.length (x, false, du, pu, re) (h9, o9, fi, mk, nn, rp) a1, stAt t.length (x, false, du, pu, re) (h9, o9, fi, mk, nn, rp) a1 && (!stNumr a2 || decide (((t.length - re.length : Nat) : Int) < stVal t.length a2))) → StW S2 K la q oq ar pq dq t ((x, false, du, pu, re), (h9, o9, fi, mk, nn, rp), st, tu, ov, ru) cap B → XS K (fun k => k = m) (fun _ => False) S S2 → (∀ v, Fi S 57 m v → Fi S2 57 m v) → Or0 S2 F False m od → Fi S2 59 m 0 → BW (d + 182) gm_X13_runs 53 [some (aR q), some (aR m)] [] S2 (fun r S' => ∃ v, r = .inl v ∧ (v = vI (b2i (stRun t.length (x, false, du, pu, re) (h9, o9, fi, mk, nn, rp) a1 a2 run).1) ∧ StW S' K la q oq ar pq dq t ((x, false, du, pu, re), (h9, o9, fi, mk, nn, rp), st, tu, ov, ru) cap B ∧ XS K (fun k => k = m) (fun _ => False) S S' ∧ (∀ v, Fi S 57 m v → Fi S' 57 m v) ∧ Or0 S' F False m od ∧ Fi S' 59 m (b2i (stRun t.length (x, false, du, pu, re) (h9, o9, fi, mk, nn, rp) a1 a2 run).2) ∧ (stNumr a2 = true → (stRun t.length (x, false, du, pu, re) (h9, o9, fi, mk, nn, rp) a1 a2 run).2 = true → Fi S' 60 m (stVal t.length a2)) ∧ ((stRun t.length (x, false, du, pu, re) (h9, o9, fi, mk, nn, rp) a1 a2 run).1 = true → Fi S' 61 m (b2i (!(stRun t.length (x, false, du, pu, re) (h9, o9, fi, mk, nn, rp) a1 a2 run).2))))) := by
    intro S2 eR g1 g2 g3 g4 g59
    obtain ⟨b1, h46, hB1⟩ := g4.fs h1
    have hm2 := g4.2.1
    have hq2 := g1.1.1.1
    (repeat (first | (refine BW.pl rfl rfl ?_) | (refine CW.geti rfl rfl (by assumption) rfl rfl (by assumption) (fun _ => ?_)) | (refine CW.getr rfl rfl (by assumption) rfl rfl (by assumption) ?_)))
    refine CW.c2 rfl rfl (by first | exact Or.inl rfl | exact Or.inr (tagO (by assumption) (by rfl) (by rfl)) | exact Or.inr (tagO (AdrIs.ox (by assumption)) (by rfl) (by rfl)) | exact Or.inr (tagO (PatIs.ox (by assumption)) (by rfl) (by rfl)) | exact Or.inr (tagO (Or0.ox (by assumption)) (by rfl) (by rfl))) (by first | exact Or.inl (by decide) | exact Or.inr ⟨_, rfl, by assumption⟩) rfl (L_isAt (d := d) g1 hk hw h40 hB1 hA1) ?_
    rintro r S3 ⟨rfl, hX3, g13⟩
    have g23 := g2.xf hX3
    have hm3 := (hX3.ob hm2 km (oNe rfl) rfl).1
    have g33 : ∀ v, Fi S 57 m v → Fi S3 57 m v := fun v hv => hX3.fi hm2 km (oNe rfl) rfl (g3 v hv) (by decide)
    have g43 := g4.xf hX3 hk.1
    have g593 := hX3.fi hm2 km (oNe rfl) rfl g59 (by decide)
    cases hAt : stAt t.length (x, false, du, pu, re) (h9, o9, fi, mk, nn, rp) a1 with
    | false =>
      rw [hAt] at eR
      refine BW.br rfl rfl (by first | omega | decide | (constructor <;> first | omega | decide)) (fun w => by first | (exfalso; omega) | exact absurd w (by decide)) (fun w => ?_)
      (repeat (refine BW.pl rfl rfl ?_))
      exact BW.irx rfl (Or.inr (Or.inl ⟨rfl, Or.inl rfl⟩)) (by have F9 := fin S3 false false eR g13 g23 g33 g43 g593 (fun _ z => by cases z) (fun z => by cases z); (try rw [hn] at F9); exact F9)
    | true =>
      rw [hAt] at eR
      refine BW.br rfl rfl (by first | omega | decide | (constructor <;> first | omega | decide)) (fun w => ?_) (fun w => by first | (exfalso; omega) | exact absurd w (by decide))
      obtain ⟨b2, h473, hB23⟩ := g43.sn h2
      have hq3 := g13.1.1.1
      (repeat (first | (refine BW.pl rfl rfl ?_) | (refine CW.geti rfl rfl (by assumption) rfl rfl (by assumption) (fun _ => ?_)) | (refine CW.getr rfl rfl (by assumption) rfl rfl (by assumption) ?_)))
      refine CW.e1 rfl rfl (by first | exact Or.inl rfl | exact Or.inr (tagO (by assumption) (by rfl) (by rfl)) | exact Or.inr (tagO (AdrIs.ox (by assumption)) (by rfl) (by rfl)) | exact Or.inr (tagO (PatIs.ox (by assumption)) (by rfl) (by rfl)) | exact Or.inr (tagO (Or0.ox (by assumption)) (by rfl) (by rfl))) (by first | exact Or.inl (by decide) | exact Or.inr ⟨_, rfl, by assumption⟩) rfl (L_isNumber (d := d + 181) hB23) ?_
      cases hn : stNumr a2 with
      | false =>
        rw [hn] at eR
        refine BW.br rfl rfl (by first | omega | decide | (constructor <;> first | omega | decide)) (fun w2 => ?_) (fun w2 => by first | (exfalso; omega) | exact absurd w2 (by decide))
        (repeat (refine BW.pl rfl rfl ?_))
        first | (refine CW.putr rfl rfl (by assumption) rfl (by decide) (fun S4 hP4 h604 => ?_)) | (refine CW.puti rfl (by assumption) rfl (by decide) (by first | exact Or.inl ⟨rfl, by first | omega | decide | (constructor <;> first | omega | decide)⟩ | exact Or.inr (Or.inl ⟨rfl, by first | omega | decide | (constructor <;> first | omega | decide)⟩) | exact Or.inr (Or.inr (Or.inl ⟨rfl, by first | omega | decide | (constructor <;> first | omega | decide)⟩)) | exact Or.inr (Or.inr (Or.inr ⟨rfl, by first | omega | decide | (constructor <;> first | omega | decide)⟩))) (fun S4 hP4 h604 => ?_))
        obtain ⟨g14, g24, g34, g44⟩ := pu1 hP4 (by decide) (by decide) g13 g23 g33 g43
        obtain ⟨b2, h474, hB24⟩ := g44.sn h2
        have hm4 := g44.2.1
        (repeat (first | (refine BW.pl rfl rfl ?_) | (refine CW.geti rfl rfl (by assumption) rfl rfl (by assumption) (fun _ => ?_)) | (refine CW.getr rfl rfl (by assumption) rfl rfl (by assumption) ?_)))
        refine CW.e1 rfl rfl (by first | exact Or.inl rfl | exact Or.inr (tagO (by assumption) (by rfl) (by rfl)) | exact Or.inr (tagO (AdrIs.ox (by assumption)) (by rfl) (by rfl)) | exact Or.inr (tagO (PatIs.ox (by assumption)) (by rfl) (by rfl)) | exact Or.inr (tagO (Or0.ox (by assumption)) (by rfl) (by rfl))) (by first | exact Or.inl (by decide) | exact Or.inr ⟨_, rfl, by assumption⟩) rfl (L_isNumber (d := d + 181) hB24) ?_
        rw [hn]
        refine BW.br rfl rfl (by first | omega | decide | (constructor <;> first | omega | decide)) (fun w3 => ?_) (fun w3 => by first | (exfalso; omega) | exact absurd w3 (by decide))
        (repeat (refine BW.pl rfl rfl ?_))
        first | (refine CW.putr rfl rfl (by assumption) rfl (by decide) (fun S5 hP5 h615 => ?_)) | (refine CW.puti rfl (by assumption) rfl (by decide) (by first | exact Or.inl ⟨rfl, by first | omega | decide | (constructor <;> first | omega | decide)⟩ | exact Or.inr (Or.inl ⟨rfl, by first | omega | decide | (constructor <;> first | omega | decide)⟩) | exact Or.inr (Or.inr (Or.inl ⟨rfl, by first | omega | decide | (constructor <;> first | omega | decide)⟩)) | exact Or.inr (Or.inr (Or.inr ⟨rfl, by first | omega | decide | (constructor <;> first | omega | decide)⟩))) (fun S5 hP5 h615 => ?_))
        obtain ⟨g15, g25, g35, g45⟩ := pu1 hP5 (by decide) (by decide) g14 g24 g34 g44
        have hm5 := g45.2.1
        (repeat (first | (refine BW.pl rfl rfl ?_) | (refine CW.geti rfl rfl (by assumption) rfl rfl (by assumption) (fun _ => ?_)) | (refine CW.getr rfl rfl (by assumption) rfl rfl (by assumption) ?_)))
        refine BW.br rfl rfl (by first | omega | decide | (constructor <;> first | omega | decide)) (fun w4 => by first | (exfalso; omega) | exact absurd w4 (by decide)) (fun w4 => ?_)
        (repeat (refine BW.pl rfl rfl ?_))
        first | (refine CW.putr rfl rfl (by assumption) rfl (by decide) (fun S6 hP6 h596 => ?_)) | (refine CW.puti rfl (by assumption) rfl (by decide) (by first | exact Or.inl ⟨rfl, by first | omega | decide | (constructor <;> first | omega | decide)⟩ | exact Or.inr (Or.inl ⟨rfl, by first | omega | decide | (constructor <;> first | omega | decide)⟩) | exact Or.inr (Or.inr (Or.inl ⟨rfl, by first | omega | decide | (constructor <;> first | omega | decide)⟩)) | exact Or.inr (Or.inr (Or.inr ⟨rfl, by first | omega | decide | (constructor <;> first | omega | decide)⟩))) (fun S6 hP6 h596 => ?_))
        obtain ⟨g16, g26, g36, g46⟩ := pu1 hP6 (by decide) (by decide) g15 g25 g35 g45
        (repeat (refine BW.pl rfl rfl ?_))
        exact BW.irx rfl (Or.inr (Or.inl ⟨rfl, Or.inr rfl⟩)) (by have F9 := fin S6 true true eR g16 g26 g36 g46 h596 (fun z => by rw [hn] at z; cases z) (fun _ => h615.pu hP6 (Or.inl (by decide))); (try rw [hn] at F9); exact F9)
      | true =>
        rw [hn] at eR
        have hN3 := g13.1.2.2.2.2.1
        refine BW.br rfl rfl (by first | omega | decide | (constructor <;> first | omega | decide)) (fun w2 => by first | (exfalso; omega) | exact absurd w2 (by decide)) (fun w2 => ?_)
        (repeat (first | (refine BW.pl rfl rfl ?_) | (refine CW.geti rfl rfl (by assumption) rfl rfl (by assumption) (fun _ => ?_)) | (refine CW.getr rfl rfl (by assumption) rfl rfl (by assumption) ?_)))
        refine CW.e2 rfl rfl (by first | exact Or.inl rfl | exact Or.inr (tagO (by assumption) (by rfl) (by rfl)) | exact Or.inr (tagO (AdrIs.ox (by assumption)) (by rfl) (by rfl)) | exact Or.inr (tagO (PatIs.ox (by assumption)) (by rfl) (by rfl)) | exact Or.inr (tagO (Or0.ox (by assumption)) (by rfl) (by rfl))) (by first | exact Or.inl (by decide) | exact Or.inr ⟨_, rfl, by assumption⟩) rfl (L_stVal (d := d + 181) g13.1.1 hB23 ⟨⟨by have := hA2.2.2.1; omega, hA2.2.2.1.2⟩, hA2.2.2.2.1⟩ h40) ?_
        (repeat (refine BW.pl rfl rfl ?_))
        first | (refine CW.putr rfl rfl (by assumption) rfl (by decide) (fun S4 hP4 h604 => ?_)) | (refine CW.puti rfl (by assumption) rfl (by decide) (by first | exact Or.inl ⟨rfl, by first | omega | decide | (constructor <;> first | omega | decide)⟩ | exact Or.inr (Or.inl ⟨rfl, by first | omega | decide | (constructor <;> first | omega | decide)⟩) | exact Or.inr (Or.inr (Or.inl ⟨rfl, by first | omega | decide | (constructor <;> first | omega | decide)⟩)) | exact Or.inr (Or.inr (Or.inr ⟨rfl, by first | omega | decide | (constructor <;> first | omega | decide)⟩))) (fun S4 hP4 h604 => ?_))
        obtain ⟨g14, g24, g34, g44⟩ := pu1 hP4 (by decide) (by decide) g13 g23 g33 g43
        obtain ⟨b2, h474, hB24⟩ := g44.sn h2
        have hm4 := g44.2.1
        have hq4 := g14.1.1.1
        have h854 : Fi S4 85 q ((t.length - re.length : Nat) : Int) := g14.2.1
        (repeat (first | (refine BW.pl rfl rfl ?_) | (refine CW.geti rfl rfl (by assumption) rfl rfl (by assumption) (fun _ => ?_)) | (refine CW.getr rfl rfl (by assumption) rfl rfl (by assumption) ?_)))
        refine CW.e1 rfl rfl (by first | exact Or.inl rfl | exact Or.inr (tagO (by assumption) (by rfl) (by rfl)) | exact Or.inr (tagO (AdrIs.ox (by assumption)) (by rfl) (by rfl)) | exact Or.inr (tagO (PatIs.ox (by assumption)) (by rfl) (by rfl)) | exact Or.inr (tagO (Or0.ox (by assumption)) (by rfl) (by rfl))) (by first | exact Or.inl (by decide) | exact Or.inr ⟨_, rfl, by assumption⟩) rfl (L_isNumber (d := d + 181) hB24) ?_
        rw [hn]
        refine BW.br rfl rfl (by first | omega | decide | (constructor <;> first | omega | decide)) (fun w3 => by first | (exfalso; omega) | exact absurd w3 (by decide)) (fun w3 => ?_)
        (repeat (first | (refine BW.pl rfl rfl ?_) | (refine CW.geti rfl rfl (by assumption) rfl rfl (by assumption) (fun _ => ?_)) | (refine CW.getr rfl rfl (by assumption) rfl rfl (by assumption) ?_)))
        by_cases zv : ((t.length - re.length : Nat) : Int) < stVal t.length a2
        · rw [decide_eq_true zv] at eR
          refine BW.br rfl rfl (by first | omega | decide | (constructor <;> first | omega | decide)) (fun w4 => ?_) (fun w4 => by first | (exfalso; omega) | exact absurd w4 (by decide))
          (repeat (refine BW.pl rfl rfl ?_))
          first | (refine CW.putr rfl rfl (by assumption) rfl (by decide) (fun S5 hP5 h615 => ?_)) | (refine CW.puti rfl (by assumption) rfl (by decide) (by first | exact Or.inl ⟨rfl, by first | omega | decide | (constructor <;> first | omega | decide)⟩ | exact Or.inr (Or.inl ⟨rfl, by first | omega | decide | (constructor <;> first | omega | decide)⟩) | exact Or.inr (Or.inr (Or.inl ⟨rfl, by first | omega | decide | (constructor <;> first | omega | decide)⟩)) | exact Or.inr (Or.inr (Or.inr ⟨rfl, by first | omega | decide | (constructor <;> first | omega | decide)⟩))) (fun S5 hP5 h615 => ?_))
          obtain ⟨g15, g25, g35, g45⟩ := pu1 hP5 (by decide) (by decide) g14 g24 g34 g44
          have h605 := h604.pu hP5 (Or.inl (by decide))
          have hm5 := g45.2.1
          (repeat (first | (refine BW.pl rfl rfl ?_) | (refine CW.geti rfl rfl (by assumption) rfl rfl (by assumption) (fun _ => ?_)) | (refine CW.getr rfl rfl (by assumption) rfl rfl (by assumption) ?_)))
          refine BW.br rfl rfl (by first | omega | decide | (constructor <;> first | omega | decide)) (fun w5 => by first | (exfalso; omega) | exact absurd w5 (by decide)) (fun w5 => ?_)
          (repeat (refine BW.pl rfl rfl ?_))
          first | (refine CW.putr rfl rfl (by assumption) rfl (by decide) (fun S6 hP6 h596 => ?_)) | (refine CW.puti rfl (by assumption) rfl (by decide) (by first | exact Or.inl ⟨rfl, by first | omega | decide | (constructor <;> first | omega | decide)⟩ | exact Or.inr (Or.inl ⟨rfl, by first | omega | decide | (constructor <;> first | omega | decide)⟩) | exact Or.inr (Or.inr (Or.inl ⟨rfl, by first | omega | decide | (constructor <;> first | omega | decide)⟩)) | exact Or.inr (Or.inr (Or.inr ⟨rfl, by first | omega | decide | (constructor <;> first | omega | decide)⟩))) (fun S6 hP6 h596 => ?_))
          obtain ⟨g16, g26, g36, g46⟩ := pu1 hP6 (by decide) (by decide) g15 g25 g35 g45
          (repeat (refine BW.pl rfl rfl ?_))
          exact BW.irx rfl (Or.inr (Or.inl ⟨rfl, Or.inr rfl⟩)) (by have F9 := fin S6 true true eR g16 g26 g36 g46 h596 (fun _ _ => h605.pu hP6 (Or.inl (by decide))) (fun _ => h615.pu hP6 (Or.inl (by decide))); (try rw [hn] at F9); exact F9)
        · rw [decide_eq_false zv] at eR
          refine BW.br rfl rfl (by first | omega | decide | (constructor <;> first | omega | decide)) (fun w4 => by first | (exfalso; omega) | exact absurd w4 (by decide)) (fun w4 => ?_)
          (repeat (refine BW.pl rfl rfl ?_))
          first | (refine CW.putr rfl rfl (by assumption) rfl (by decide) (fun S5 hP5 h615 => ?_)) | (refine CW.puti rfl (by assumption) rfl (by decide) (by first | exact Or.inl ⟨rfl, by first | omega | decide | (constructor <;> first | omega | decide)⟩ | exact Or.inr (Or.inl ⟨rfl, by first | omega | decide | (constructor <;> first | omega | decide)⟩) | exact Or.inr (Or.inr (Or.inl ⟨rfl, by first | omega | decide | (constructor <;> first | omega | decide)⟩)) | exact Or.inr (Or.inr (Or.inr ⟨rfl, by first | omega | decide | (constructor <;> first | omega | decide)⟩))) (fun S5 hP5 h615 => ?_))
          obtain ⟨g15, g25, g35, g45⟩ := pu1 hP5 (by decide) (by decide) g14 g24 g34 g44
          have hm5 := g45.2.1
          (repeat (first | (refine BW.pl rfl rfl ?_) | (refine CW.geti rfl rfl (by assumption) rfl rfl (by assumption) (fun _ => ?_)) | (refine CW.getr rfl rfl (by assumption) rfl rfl (by assumption) ?_)))
          refine BW.br rfl rfl (by first | omega | decide | (constructor <;> first | omega | decide)) (fun w5 => ?_) (fun w5 => by first | (exfalso; omega) | exact absurd w5 (by decide))
          (repeat (refine BW.pl rfl rfl ?_))
          first | (refine CW.putr rfl rfl (by assumption) rfl (by decide) (fun S6 hP6 h596 => ?_)) | (refine CW.puti rfl (by assumption) rfl (by decide) (by first | exact Or.inl ⟨rfl, by first | omega | decide | (constructor <;> first | omega | decide)⟩ | exact Or.inr (Or.inl ⟨rfl, by first | omega | decide | (constructor <;> first | omega | decide)⟩) | exact Or.inr (Or.inr (Or.inl ⟨rfl, by first | omega | decide | (constructor <;> first | omega | decide)⟩)) | exact Or.inr (Or.inr (Or.inr ⟨rfl, by first | omega | decide | (constructor <;> first | omega | decide)⟩))) (fun S6 hP6 h596 => ?_))
          obtain ⟨g16, g26, g36, g46⟩ := pu1 hP6 (by decide) (by decide) g15 g25 g35 g45
          (repeat (refine BW.pl rfl rfl ?_))
          exact BW.irx rfl (Or.inr (Or.inl ⟨rfl, Or.inr rfl⟩)) (by have F9 := fin S6 true false eR g16 g26 g36 g46 h596 (fun _ z => by cases z) (fun _ => h615.pu hP6 (Or.inl (by decide))); (try rw [hn] at F9); exact F9)
  have hm := hO.2.1
  have hq := h.1.1.1
  have h85 : Fi S 85 q ((t.length - re.length : Nat) : Int) := h.2.1
  obtain ⟨b2, h47, hB2⟩ := hO.sn h2
  refine BM.of rfl rfl rfl ?_
  cases run with
  | false =>
    have eR : stRun t.length (x, false, du, pu, re) (h9, o9, fi, mk, nn, rp) a1 a2 false = (stAt t.length (x, false, du, pu, re) (h9, o9, fi, mk, nn, rp) a1, stAt t.length (x, false, du, pu, re) (h9, o9, fi, mk, nn, rp) a1 && (!stNumr a2 || decide (((t.length - re.length : Nat) : Int) < stVal t.length a2))) := by
      unfold stRun
      rw [if_neg (fun z => absurd z.1 (by decide))]
    replace h59 : Fi S 59 m 0 := h59
    (repeat (first | (refine BW.pl rfl rfl ?_) | (refine CW.geti rfl rfl (by assumption) rfl rfl (by assumption) (fun _ => ?_)) | (refine CW.getr rfl rfl (by assumption) rfl rfl (by assumption) ?_)))
    refine BW.br rfl rfl (by first | omega | decide | (constructor <;> first | omega | decide)) (fun w => ?_) (fun w => by first | (exfalso; omega) | exact absurd w (by decide))
    (repeat (first | (refine BW.pl rfl rfl ?_) | (refine CW.geti rfl rfl (by assumption) rfl rfl (by assumption) (fun _ => ?_)) | (refine CW.getr rfl rfl (by assumption) rfl rfl (by assumption) ?_)))
    refine BW.br rfl rfl (by first | omega | decide | (constructor <;> first | omega | decide)) (fun w2 => ?_) (fun w2 => by first | (exfalso; omega) | exact absurd w2 (by decide))
    exact at53 S eR h XS.rf (fun _ z => z) hO h59
  | true =>
    replace h59 : Fi S 59 m 1 := h59
    (repeat (first | (refine BW.pl rfl rfl ?_) | (refine CW.geti rfl rfl (by assumption) rfl rfl (by assumption) (fun _ => ?_)) | (refine CW.getr rfl rfl (by assumption) rfl rfl (by assumption) ?_)))
    refine BW.br rfl rfl (by first | omega | decide | (constructor <;> first | omega | decide)) (fun w => by first | (exfalso; omega) | exact absurd w (by decide)) (fun w => ?_)
    (repeat (first | (refine BW.pl rfl rfl ?_) | (refine CW.geti rfl rfl (by assumption) rfl rfl (by assumption) (fun _ => ?_)) | (refine CW.getr rfl rfl (by assumption) rfl rfl (by assumption) ?_)))
    refine CW.e1 rfl rfl (by first | exact Or.inl rfl | exact Or.inr (tagO (by assumption) (by rfl) (by rfl)) | exact Or.inr (tagO (AdrIs.ox (by assumption)) (by rfl) (by rfl)) | exact Or.inr (tagO (PatIs.ox (by assumption)) (by rfl) (by rfl)) | exact Or.inr (tagO (Or0.ox (by assumption)) (by rfl) (by rfl))) (by first | exact Or.inl (by decide) | exact Or.inr ⟨_, rfl, by assumption⟩) rfl (L_isNumber (d := d + 181) hB2) ?_
    cases hn : stNumr a2 with
    | false =>
      have eR : stRun t.length (x, false, du, pu, re) (h9, o9, fi, mk, nn, rp) a1 a2 true = (true, !stAt t.length (x, false, du, pu, re) (h9, o9, fi, mk, nn, rp) a2) := by
        unfold stRun
        rw [if_pos ⟨rfl, fun z => by rw [hn] at z; exact absurd z.1 (by decide)⟩, if_neg (by rw [hn]; decide)]
      refine BW.br rfl rfl (by first | omega | decide | (constructor <;> first | omega | decide)) (fun w2 => ?_) (fun w2 => by first | (exfalso; omega) | exact absurd w2 (by decide))
      (repeat (first | (refine BW.pl rfl rfl ?_) | (refine CW.geti rfl rfl (by assumption) rfl rfl (by assumption) (fun _ => ?_)) | (refine CW.getr rfl rfl (by assumption) rfl rfl (by assumption) ?_)))
      refine BW.br rfl rfl (by first | omega | decide | (constructor <;> first | omega | decide)) (fun w3 => by first | (exfalso; omega) | exact absurd w3 (by decide)) (fun w3 => ?_)
      (repeat (first | (refine BW.pl rfl rfl ?_) | (refine CW.geti rfl rfl (by assumption) rfl rfl (by assumption) (fun _ => ?_)) | (refine CW.getr rfl rfl (by assumption) rfl rfl (by assumption) ?_)))
      refine CW.c2 rfl rfl (by first | exact Or.inl rfl | exact Or.inr (tagO (by assumption) (by rfl) (by rfl)) | exact Or.inr (tagO (AdrIs.ox (by assumption)) (by rfl) (by rfl)) | exact Or.inr (tagO (PatIs.ox (by assumption)) (by rfl) (by rfl)) | exact Or.inr (tagO (Or0.ox (by assumption)) (by rfl) (by rfl))) (by first | exact Or.inl (by decide) | exact Or.inr ⟨_, rfl, by assumption⟩) rfl (L_isAt (d := d) h hk hw h40 hB2 hA2) ?_
      rintro r S3 ⟨rfl, hX3, g13⟩
      have g23 : XS K (fun k => k = m) (fun _ => False) S S3 := XS.of hX3
      have hm3 := (hX3.ob hm km (oNe rfl) rfl).1
      have g33 : ∀ v, Fi S 57 m v → Fi S3 57 m v := fun v hv => hX3.fi hm km (oNe rfl) rfl hv (by decide)
      have g43 := hO.xf hX3 hk.1
      cases hAt : stAt t.length (x, false, du, pu, re) (h9, o9, fi, mk, nn, rp) a2 with
      | true =>
        rw [hAt] at eR
        first | (refine CW.putr rfl rfl (by assumption) rfl (by decide) (fun S4 hP4 h614 => ?_)) | (refine CW.puti rfl (by assumption) rfl (by decide) (by first | exact Or.inl ⟨rfl, by first | omega | decide | (constructor <;> first | omega | decide)⟩ | exact Or.inr (Or.inl ⟨rfl, by first | omega | decide | (constructor <;> first | omega | decide)⟩) | exact Or.inr (Or.inr (Or.inl ⟨rfl, by first | omega | decide | (constructor <;> first | omega | decide)⟩)) | exact Or.inr (Or.inr (Or.inr ⟨rfl, by first | omega | decide | (constructor <;> first | omega | decide)⟩))) (fun S4 hP4 h614 => ?_))
        obtain ⟨g14, g24, g34, g44⟩ := pu1 hP4 (by decide) (by decide) g13 g23 g33 g43
        have hm4 := g44.2.1
        replace h614 : Fi S4 61 m 1 := h614
        (repeat (first | (refine BW.pl rfl rfl ?_) | (refine CW.geti rfl rfl (by assumption) rfl rfl (by assumption) (fun _ => ?_)) | (refine CW.getr rfl rfl (by assumption) rfl rfl (by assumption) ?_)))
        refine BW.br rfl rfl (by first | omega | decide | (constructor <;> first | omega | decide)) (fun w4 => ?_) (fun w4 => by first | (exfalso; omega) | exact absurd w4 (by decide))
        (repeat (refine BW.pl rfl rfl ?_))
        first | (refine CW.putr rfl rfl (by assumption) rfl (by decide) (fun S5 hP5 h595 => ?_)) | (refine CW.puti rfl (by assumption) rfl (by decide) (by first | exact Or.inl ⟨rfl, by first | omega | decide | (constructor <;> first | omega | decide)⟩ | exact Or.inr (Or.inl ⟨rfl, by first | omega | decide | (constructor <;> first | omega | decide)⟩) | exact Or.inr (Or.inr (Or.inl ⟨rfl, by first | omega | decide | (constructor <;> first | omega | decide)⟩)) | exact Or.inr (Or.inr (Or.inr ⟨rfl, by first | omega | decide | (constructor <;> first | omega | decide)⟩))) (fun S5 hP5 h595 => ?_))
        obtain ⟨g15, g25, g35, g45⟩ := pu1 hP5 (by decide) (by decide) g14 g24 g34 g44
        (repeat (refine BW.pl rfl rfl ?_))
        exact BW.irx rfl (Or.inr (Or.inl ⟨rfl, Or.inr rfl⟩)) (by have F9 := fin S5 true false eR g15 g25 g35 g45 h595 (fun _ z => by cases z) (fun _ => h614.pu hP5 (Or.inl (by decide))); (try rw [hn] at F9); exact F9)
      | false =>
        rw [hAt] at eR
        first | (refine CW.putr rfl rfl (by assumption) rfl (by decide) (fun S4 hP4 h614 => ?_)) | (refine CW.puti rfl (by assumption) rfl (by decide) (by first | exact Or.inl ⟨rfl, by first | omega | decide | (constructor <;> first | omega | decide)⟩ | exact Or.inr (Or.inl ⟨rfl, by first | omega | decide | (constructor <;> first | omega | decide)⟩) | exact Or.inr (Or.inr (Or.inl ⟨rfl, by first | omega | decide | (constructor <;> first | omega | decide)⟩)) | exact Or.inr (Or.inr (Or.inr ⟨rfl, by first | omega | decide | (constructor <;> first | omega | decide)⟩))) (fun S4 hP4 h614 => ?_))
        obtain ⟨g14, g24, g34, g44⟩ := pu1 hP4 (by decide) (by decide) g13 g23 g33 g43
        have hm4 := g44.2.1
        replace h614 : Fi S4 61 m 0 := h614
        (repeat (first | (refine BW.pl rfl rfl ?_) | (refine CW.geti rfl rfl (by assumption) rfl rfl (by assumption) (fun _ => ?_)) | (refine CW.getr rfl rfl (by assumption) rfl rfl (by assumption) ?_)))
        refine BW.br rfl rfl (by first | omega | decide | (constructor <;> first | omega | decide)) (fun w4 => by first | (exfalso; omega) | exact absurd w4 (by decide)) (fun w4 => ?_)
        (repeat (refine BW.pl rfl rfl ?_))
        first | (refine CW.putr rfl rfl (by assumption) rfl (by decide) (fun S5 hP5 h595 => ?_)) | (refine CW.puti rfl (by assumption) rfl (by decide) (by first | exact Or.inl ⟨rfl, by first | omega | decide | (constructor <;> first | omega | decide)⟩ | exact Or.inr (Or.inl ⟨rfl, by first | omega | decide | (constructor <;> first | omega | decide)⟩) | exact Or.inr (Or.inr (Or.inl ⟨rfl, by first | omega | decide | (constructor <;> first | omega | decide)⟩)) | exact Or.inr (Or.inr (Or.inr ⟨rfl, by first | omega | decide | (constructor <;> first | omega | decide)⟩))) (fun S5 hP5 h595 => ?_))
        obtain ⟨g15, g25, g35, g45⟩ := pu1 hP5 (by decide) (by decide) g14 g24 g34 g44
        (repeat (refine BW.pl rfl rfl ?_))
        exact BW.irx rfl (Or.inr (Or.inl ⟨rfl, Or.inr rfl⟩)) (by have F9 := fin S5 true true eR g15 g25 g35 g45 h595 (fun z => by rw [hn] at z; cases z) (fun _ => h614.pu hP5 (Or.inl (by decide))); (try rw [hn] at F9); exact F9)
    | true =>
      have h60 := h60 hn rfl
      refine BW.br rfl rfl (by first | omega | decide | (constructor <;> first | omega | decide)) (fun w2 => by first | (exfalso; omega) | exact absurd w2 (by decide)) (fun w2 => ?_)
      (repeat (first | (refine BW.pl rfl rfl ?_) | (refine CW.geti rfl rfl (by assumption) rfl rfl (by assumption) (fun _ => ?_)) | (refine CW.getr rfl rfl (by assumption) rfl rfl (by assumption) ?_)))
      by_cases zv : stVal t.length a2 < ((t.length - re.length : Nat) : Int)
      · have eR : stRun t.length (x, false, du, pu, re) (h9, o9, fi, mk, nn, rp) a1 a2 true = (stAt t.length (x, false, du, pu, re) (h9, o9, fi, mk, nn, rp) a1, stAt t.length (x, false, du, pu, re) (h9, o9, fi, mk, nn, rp) a1 && (!stNumr a2 || decide (((t.length - re.length : Nat) : Int) < stVal t.length a2))) := by
          unfold stRun
          rw [if_neg (fun z => z.2 ⟨hn, zv⟩)]
        refine BW.br rfl rfl (by first | omega | decide | (constructor <;> first | omega | decide)) (fun w3 => by first | (exfalso; omega) | exact absurd w3 (by decide)) (fun w3 => ?_)
        (repeat (refine BW.pl rfl rfl ?_))
        first | (refine CW.putr rfl rfl (by assumption) rfl (by decide) (fun S4 hP4 h614 => ?_)) | (refine CW.puti rfl (by assumption) rfl (by decide) (by first | exact Or.inl ⟨rfl, by first | omega | decide | (constructor <;> first | omega | decide)⟩ | exact Or.inr (Or.inl ⟨rfl, by first | omega | decide | (constructor <;> first | omega | decide)⟩) | exact Or.inr (Or.inr (Or.inl ⟨rfl, by first | omega | decide | (constructor <;> first | omega | decide)⟩)) | exact Or.inr (Or.inr (Or.inr ⟨rfl, by first | omega | decide | (constructor <;> first | omega | decide)⟩))) (fun S4 hP4 h614 => ?_))
        obtain ⟨g14, g24, g34, g44⟩ := pu1 hP4 (by decide) (by decide) h XS.rf (fun _ z => z) hO
        have hm4 := g44.2.1
        have hq4 := g14.1.1.1
        have h854 : Fi S4 85 q ((t.length - re.length : Nat) : Int) := g14.2.1
        have h604 := h60.pu hP4 (Or.inl (by decide))
        (repeat (first | (refine BW.pl rfl rfl ?_) | (refine CW.geti rfl rfl (by assumption) rfl rfl (by assumption) (fun _ => ?_)) | (refine CW.getr rfl rfl (by assumption) rfl rfl (by assumption) ?_)))
        refine BW.br rfl rfl (by first | omega | decide | (constructor <;> first | omega | decide)) (fun w4 => ?_) (fun w4 => by first | (exfalso; omega) | exact absurd w4 (by decide))
        (repeat (refine BW.pl rfl rfl ?_))
        first | (refine CW.putr rfl rfl (by assumption) rfl (by decide) (fun S5 hP5 h595 => ?_)) | (refine CW.puti rfl (by assumption) rfl (by decide) (by first | exact Or.inl ⟨rfl, by first | omega | decide | (constructor <;> first | omega | decide)⟩ | exact Or.inr (Or.inl ⟨rfl, by first | omega | decide | (constructor <;> first | omega | decide)⟩) | exact Or.inr (Or.inr (Or.inl ⟨rfl, by first | omega | decide | (constructor <;> first | omega | decide)⟩)) | exact Or.inr (Or.inr (Or.inr ⟨rfl, by first | omega | decide | (constructor <;> first | omega | decide)⟩))) (fun S5 hP5 h595 => ?_))
        obtain ⟨g15, g25, g35, g45⟩ := pu1 hP5 (by decide) (by decide) g14 g24 g34 g44
        have hm5 := g45.2.1
        have hq5 := g15.1.1.1
        have h855 : Fi S5 85 q ((t.length - re.length : Nat) : Int) := g15.2.1
        have h605 := h604.pu hP5 (Or.inl (by decide))
        (repeat (first | (refine BW.pl rfl rfl ?_) | (refine CW.geti rfl rfl (by assumption) rfl rfl (by assumption) (fun _ => ?_)) | (refine CW.getr rfl rfl (by assumption) rfl rfl (by assumption) ?_)))
        refine BW.br rfl rfl (by first | omega | decide | (constructor <;> first | omega | decide)) (fun w5 => ?_) (fun w5 => by first | (exfalso; omega) | exact absurd w5 (by decide))
        have F9 := at53 S5 eR g15 g25 g35 g45 h595
        (try rw [hn] at F9)
        exact F9
      · have eR : stRun t.length (x, false, du, pu, re) (h9, o9, fi, mk, nn, rp) a1 a2 true = (true, decide (((t.length - re.length : Nat) : Int) < stVal t.length a2)) := by
          unfold stRun
          rw [if_pos ⟨rfl, fun z => zv z.2⟩, if_pos hn]
        by_cases ze : ((t.length - re.length : Nat) : Int) < stVal t.length a2
        · rw [decide_eq_true ze] at eR
          refine BW.br rfl rfl (by first | omega | decide | (constructor <;> first | omega | decide)) (fun w3 => ?_) (fun w3 => by first | (exfalso; omega) | exact absurd w3 (by decide))
          (repeat (refine BW.pl rfl rfl ?_))
          first | (refine CW.putr rfl rfl (by assumption) rfl (by decide) (fun S4 hP4 h614 => ?_)) | (refine CW.puti rfl (by assumption) rfl (by decide) (by first | exact Or.inl ⟨rfl, by first | omega | decide | (constructor <;> first | omega | decide)⟩ | exact Or.inr (Or.inl ⟨rfl, by first | omega | decide | (constructor <;> first | omega | decide)⟩) | exact Or.inr (Or.inr (Or.inl ⟨rfl, by first | omega | decide | (constructor <;> first | omega | decide)⟩)) | exact Or.inr (Or.inr (Or.inr ⟨rfl, by first | omega | decide | (constructor <;> first | omega | decide)⟩))) (fun S4 hP4 h614 => ?_))
          obtain ⟨g14, g24, g34, g44⟩ := pu1 hP4 (by decide) (by decide) h XS.rf (fun _ z => z) hO
          have hm4 := g44.2.1
          have hq4 := g14.1.1.1
          have h854 : Fi S4 85 q ((t.length - re.length : Nat) : Int) := g14.2.1
          have h604 := h60.pu hP4 (Or.inl (by decide))
          (repeat (first | (refine BW.pl rfl rfl ?_) | (refine CW.geti rfl rfl (by assumption) rfl rfl (by assumption) (fun _ => ?_)) | (refine CW.getr rfl rfl (by assumption) rfl rfl (by assumption) ?_)))
          refine BW.br rfl rfl (by first | omega | decide | (constructor <;> first | omega | decide)) (fun w4 => by first | (exfalso; omega) | exact absurd w4 (by decide)) (fun w4 => ?_)
          (repeat (refine BW.pl rfl rfl ?_))
          first | (refine CW.putr rfl rfl (by assumption) rfl (by decide) (fun S5 hP5 h595 => ?_)) | (refine CW.puti rfl (by assumption) rfl (by decide) (by first | exact Or.inl ⟨rfl, by first | omega | decide | (constructor <;> first | omega | decide)⟩ | exact Or.inr (Or.inl ⟨rfl, by first | omega | decide | (constructor <;> first | omega | decide)⟩) | exact Or.inr (Or.inr (Or.inl ⟨rfl, by first | omega | decide | (constructor <;> first | omega | decide)⟩)) | exact Or.inr (Or.inr (Or.inr ⟨rfl, by first | omega | decide | (constructor <;> first | omega | decide)⟩))) (fun S5 hP5 h595 => ?_))
          obtain ⟨g15, g25, g35, g45⟩ := pu1 hP5 (by decide) (by decide) g14 g24 g34 g44
          have hm5 := g45.2.1
          have hq5 := g15.1.1.1
          have h855 : Fi S5 85 q ((t.length - re.length : Nat) : Int) := g15.2.1
          have h605 := h604.pu hP5 (Or.inl (by decide))
          (repeat (first | (refine BW.pl rfl rfl ?_) | (refine CW.geti rfl rfl (by assumption) rfl rfl (by assumption) (fun _ => ?_)) | (refine CW.getr rfl rfl (by assumption) rfl rfl (by assumption) ?_)))
          refine BW.br rfl rfl (by first | omega | decide | (constructor <;> first | omega | decide)) (fun w5 => by first | (exfalso; omega) | exact absurd w5 (by decide)) (fun w5 => ?_)
          (repeat (refine BW.pl rfl rfl ?_))
          exact BW.irx rfl (Or.inr (Or.inl ⟨rfl, Or.inr rfl⟩)) (by have F9 := fin S5 true true eR g15 g25 g35 g45 h595 (fun _ _ => h605) (fun _ => h614.pu hP5 (Or.inl (by decide))); (try rw [hn] at F9); exact F9)
        · rw [decide_eq_false ze] at eR
          refine BW.br rfl rfl (by first | omega | decide | (constructor <;> first | omega | decide)) (fun w3 => by first | (exfalso; omega) | exact absurd w3 (by decide)) (fun w3 => ?_)
          (repeat (refine BW.pl rfl rfl ?_))
          first | (refine CW.putr rfl rfl (by assumption) rfl (by decide) (fun S4 hP4 h614 => ?_)) | (refine CW.puti rfl (by assumption) rfl (by decide) (by first | exact Or.inl ⟨rfl, by first | omega | decide | (constructor <;> first | omega | decide)⟩ | exact Or.inr (Or.inl ⟨rfl, by first | omega | decide | (constructor <;> first | omega | decide)⟩) | exact Or.inr (Or.inr (Or.inl ⟨rfl, by first | omega | decide | (constructor <;> first | omega | decide)⟩)) | exact Or.inr (Or.inr (Or.inr ⟨rfl, by first | omega | decide | (constructor <;> first | omega | decide)⟩))) (fun S4 hP4 h614 => ?_))
          obtain ⟨g14, g24, g34, g44⟩ := pu1 hP4 (by decide) (by decide) h XS.rf (fun _ z => z) hO
          have hm4 := g44.2.1
          have hq4 := g14.1.1.1
          have h854 : Fi S4 85 q ((t.length - re.length : Nat) : Int) := g14.2.1
          have h604 := h60.pu hP4 (Or.inl (by decide))
          (repeat (first | (refine BW.pl rfl rfl ?_) | (refine CW.geti rfl rfl (by assumption) rfl rfl (by assumption) (fun _ => ?_)) | (refine CW.getr rfl rfl (by assumption) rfl rfl (by assumption) ?_)))
          refine BW.br rfl rfl (by first | omega | decide | (constructor <;> first | omega | decide)) (fun w4 => ?_) (fun w4 => by first | (exfalso; omega) | exact absurd w4 (by decide))
          (repeat (refine BW.pl rfl rfl ?_))
          first | (refine CW.putr rfl rfl (by assumption) rfl (by decide) (fun S5 hP5 h595 => ?_)) | (refine CW.puti rfl (by assumption) rfl (by decide) (by first | exact Or.inl ⟨rfl, by first | omega | decide | (constructor <;> first | omega | decide)⟩ | exact Or.inr (Or.inl ⟨rfl, by first | omega | decide | (constructor <;> first | omega | decide)⟩) | exact Or.inr (Or.inr (Or.inl ⟨rfl, by first | omega | decide | (constructor <;> first | omega | decide)⟩)) | exact Or.inr (Or.inr (Or.inr ⟨rfl, by first | omega | decide | (constructor <;> first | omega | decide)⟩))) (fun S5 hP5 h595 => ?_))
          obtain ⟨g15, g25, g35, g45⟩ := pu1 hP5 (by decide) (by decide) g14 g24 g34 g44
          have hm5 := g45.2.1
          have hq5 := g15.1.1.1
          have h855 : Fi S5 85 q ((t.length - re.length : Nat) : Int) := g15.2.1
          have h605 := h604.pu hP5 (Or.inl (by decide))
          (repeat (first | (refine BW.pl rfl rfl ?_) | (refine CW.geti rfl rfl (by assumption) rfl rfl (by assumption) (fun _ => ?_)) | (refine CW.getr rfl rfl (by assumption) rfl rfl (by assumption) ?_)))
          refine BW.br rfl rfl (by first | omega | decide | (constructor <;> first | omega | decide)) (fun w5 => by first | (exfalso; omega) | exact absurd w5 (by decide)) (fun w5 => ?_)
          (repeat (refine BW.pl rfl rfl ?_))
          exact BW.irx rfl (Or.inr (Or.inl ⟨rfl, Or.inr rfl⟩)) (by have F9 := fin S5 true false eR g15 g25 g35 g45 h595 (fun _ z => by cases z) (fun _ => h614.pu hP5 (Or.inl (by decide))); (try rw [hn] at F9); exact F9)
theorem L_holds (h : StW S K la q oq ar pq dq t ((x, false, du, pu, re), (h9, o9, fi, mk, nn, rp), st, tu, ov, ru) cap B) (hk : StK K F q ar pq dq) (hw : WS n0 (x, false, du, pu, re) (h9, o9, fi, mk, nn, rp)) (h40 : t.length ≤ 40) (hO : Or0 S F False m od) (hA1 : ∀ a, oFst od = some a → AdK a) (hA2 : ∀ a, oSnd od = some a → AdK a) (h12 : oFst od = none → oSnd od = none) (hR : RnI S t.length m od R) (htu : tu < 100000) : BMr (d + 184) gk_X13_holds [aR q, aR m] S (fun r S' => r = vI (b2i (stHold t.length (x, false, du, pu, re) (h9, o9, fi, mk, nn, rp) tu od R).1) ∧ StW S' K la q oq ar pq dq t ((x, false, du, pu, re), (h9, o9, fi, mk, nn, rp), st, tu, ov, ru) cap B ∧ XS K (fun k => k = m) (fun _ => False) S S' ∧ Or0 S' F False m od ∧ RnI S' t.length m od (stHold t.length (x, false, du, pu, re) (h9, o9, fi, mk, nn, rp) tu od R).2) := by
  have hm := hO.2.1
  have km := hk.1 m hO.1
  have hq := h.1.1.1
  refine BM.of rfl rfl rfl ?_
  cases e1 : oFst od with
  | none =>
    have e : stHold t.length (x, false, du, pu, re) (h9, o9, fi, mk, nn, rp) tu od R = (true, R) := by
      unfold stHold
      rw [e1]
    rw [e]
    obtain ⟨_, _, _, ⟨r3, h46, hA⟩, _⟩ := id hO
    have hA : AdO S F r3 (oFst od) := hA
    rw [e1] at hA
    have hA : r3 = none := hA
    subst hA
    (repeat (first | (refine BW.pl rfl rfl ?_) | (refine CW.geti rfl rfl (by assumption) rfl rfl (by assumption) (fun _ => ?_)) | (refine CW.getr rfl rfl (by assumption) rfl rfl (by assumption) ?_)))
    refine CW.nul rfl rfl (fun n h => by cases h) ?_
    (repeat (refine BW.pl rfl rfl ?_))
    exact BW.irx rfl (Or.inr (Or.inl ⟨rfl, Or.inr rfl⟩)) ⟨_, rfl, rfl, h, XS.rf, hO, hR⟩
  | some a1 =>
    obtain ⟨b1, h46, hB1⟩ := hO.fs e1
    (repeat (first | (refine BW.pl rfl rfl ?_) | (refine CW.geti rfl rfl (by assumption) rfl rfl (by assumption) (fun _ => ?_)) | (refine CW.getr rfl rfl (by assumption) rfl rfl (by assumption) ?_)))
    refine CW.nul rfl rfl (fun n h => by cases h; rw [show S.1 b1 = _ from hB1.2.1]; rfl) ?_
    cases e2 : oSnd od with
    | none =>
      have e : stHold t.length (x, false, du, pu, re) (h9, o9, fi, mk, nn, rp) tu od R = (stAt t.length (x, false, du, pu, re) (h9, o9, fi, mk, nn, rp) a1, R) := by
        unfold stHold
        rw [e1, e2]
      rw [e]
      obtain ⟨_, _, _, _, ⟨r5, h47, hA⟩, _⟩ := id hO
      have hA : AdO S F r5 (oSnd od) := hA
      rw [e2] at hA
      have hA : r5 = none := hA
      subst hA
      (repeat (first | (refine BW.pl rfl rfl ?_) | (refine CW.geti rfl rfl (by assumption) rfl rfl (by assumption) (fun _ => ?_)) | (refine CW.getr rfl rfl (by assumption) rfl rfl (by assumption) ?_)))
      refine CW.nul rfl rfl (fun n h => by cases h) ?_
      (repeat (first | (refine BW.pl rfl rfl ?_) | (refine CW.geti rfl rfl (by assumption) rfl rfl (by assumption) (fun _ => ?_)) | (refine CW.getr rfl rfl (by assumption) rfl rfl (by assumption) ?_)))
      refine CW.c2 rfl rfl (by first | exact Or.inl rfl | exact Or.inr (tagO (by assumption) (by rfl) (by rfl)) | exact Or.inr (tagO (AdrIs.ox (by assumption)) (by rfl) (by rfl)) | exact Or.inr (tagO (PatIs.ox (by assumption)) (by rfl) (by rfl)) | exact Or.inr (tagO (Or0.ox (by assumption)) (by rfl) (by rfl))) (by first | exact Or.inl (by decide) | exact Or.inr ⟨_, rfl, by assumption⟩) rfl (L_isAt (d := d + 1) h hk hw h40 hB1 (hA1 a1 e1)) ?_
      rintro r S3 ⟨rfl, hX3, g13⟩
      cases hAt : stAt t.length (x, false, du, pu, re) (h9, o9, fi, mk, nn, rp) a1 with
      | true => exact BW.irx rfl (Or.inr (Or.inl ⟨rfl, Or.inr rfl⟩)) ⟨_, rfl, rfl, g13, XS.of hX3, hO.xf hX3 hk.1, hR.xf hX3 hm km⟩
      | false => exact BW.irx rfl (Or.inr (Or.inl ⟨rfl, Or.inl rfl⟩)) ⟨_, rfl, rfl, g13, XS.of hX3, hO.xf hX3 hk.1, hR.xf hX3 hm km⟩
    | some a2 =>
      obtain ⟨b2, h47, hB2⟩ := hO.sn e2
      obtain ⟨h57, h58, h59, h60, h61⟩ := id hR
      have h84 : Fi S 84 q (tu : Int) := h.1.2.2.2.2.1.1.2.1
      (repeat (first | (refine BW.pl rfl rfl ?_) | (refine CW.geti rfl rfl (by assumption) rfl rfl (by assumption) (fun _ => ?_)) | (refine CW.getr rfl rfl (by assumption) rfl rfl (by assumption) ?_)))
      refine CW.nul rfl rfl (fun n h => by cases h; rw [show S.1 b2 = _ from hB2.2.1]; rfl) ?_
      (repeat (first | (refine BW.pl rfl rfl ?_) | (refine CW.geti rfl rfl (by assumption) rfl rfl (by assumption) (fun _ => ?_)) | (refine CW.getr rfl rfl (by assumption) rfl rfl (by assumption) ?_)))
      by_cases zt : R.1 = tu
      · have e : stHold t.length (x, false, du, pu, re) (h9, o9, fi, mk, nn, rp) tu od R = (R.2.1, R) := by
          unfold stHold
          rw [e1, e2]
          exact if_pos zt
        rw [e]
        refine BW.br rfl rfl (by first | omega | decide | (constructor <;> first | omega | decide)) (fun w => ?_) (fun w => by first | (exfalso; omega) | exact absurd w (by decide))
        cases hh : R.2.1 with
        | true =>
          rw [hh] at h58
          replace h58 : Fi S 58 m 1 := h58
          (repeat (first | (refine BW.pl rfl rfl ?_) | (refine CW.geti rfl rfl (by assumption) rfl rfl (by assumption) (fun _ => ?_)) | (refine CW.getr rfl rfl (by assumption) rfl rfl (by assumption) ?_)))
          exact BW.irx rfl (Or.inr (Or.inl ⟨rfl, Or.inr rfl⟩)) ⟨_, rfl, rfl, h, XS.rf, hO, hR⟩
        | false =>
          rw [hh] at h58
          replace h58 : Fi S 58 m 0 := h58
          (repeat (first | (refine BW.pl rfl rfl ?_) | (refine CW.geti rfl rfl (by assumption) rfl rfl (by assumption) (fun _ => ?_)) | (refine CW.getr rfl rfl (by assumption) rfl rfl (by assumption) ?_)))
          exact BW.irx rfl (Or.inr (Or.inl ⟨rfl, Or.inl rfl⟩)) ⟨_, rfl, rfl, h, XS.rf, hO, hR⟩
      · have e : stHold t.length (x, false, du, pu, re) (h9, o9, fi, mk, nn, rp) tu od R = ((stRun t.length (x, false, du, pu, re) (h9, o9, fi, mk, nn, rp) a1 a2 R.2.2).1, tu, stRun t.length (x, false, du, pu, re) (h9, o9, fi, mk, nn, rp) a1 a2 R.2.2) := by
          unfold stHold
          rw [e1, e2]
          exact if_neg zt
        rw [e]
        refine BW.br rfl rfl (by first | omega | decide | (constructor <;> first | omega | decide)) (fun w => by first | (exfalso; omega) | exact absurd w (by decide)) (fun w => ?_)
        (repeat (first | (refine BW.pl rfl rfl ?_) | (refine CW.geti rfl rfl (by assumption) rfl rfl (by assumption) (fun _ => ?_)) | (refine CW.getr rfl rfl (by assumption) rfl rfl (by assumption) ?_)))
        first | (refine CW.putr rfl rfl (by assumption) rfl (by decide) (fun S2 hP2 h572 => ?_)) | (refine CW.puti rfl (by assumption) rfl (by decide) (by first | exact Or.inl ⟨rfl, by first | omega | decide | (constructor <;> first | omega | decide)⟩ | exact Or.inr (Or.inl ⟨rfl, by first | omega | decide | (constructor <;> first | omega | decide)⟩) | exact Or.inr (Or.inr (Or.inl ⟨rfl, by first | omega | decide | (constructor <;> first | omega | decide)⟩)) | exact Or.inr (Or.inr (Or.inr ⟨rfl, by first | omega | decide | (constructor <;> first | omega | decide)⟩))) (fun S2 hP2 h572 => ?_))
        have hO2 := hO.puF hP2 hm ⟨by decide, by decide⟩
        have h2 := h.puO (ru' := ru) hP2 hm km
        have hm2 := hO2.2.1
        have hq2 := h2.1.1.1
        (repeat (refine BW.pl rfl rfl ?_))
        refine CW.c2 rfl rfl (by first | exact Or.inl rfl | exact Or.inr (tagO (by assumption) (by rfl) (by rfl)) | exact Or.inr (tagO (AdrIs.ox (by assumption)) (by rfl) (by rfl)) | exact Or.inr (tagO (PatIs.ox (by assumption)) (by rfl) (by rfl)) | exact Or.inr (tagO (Or0.ox (by assumption)) (by rfl) (by rfl))) (by first | exact Or.inl (by decide) | exact Or.inr ⟨_, rfl, by assumption⟩) rfl (L_runs (d := d) h2 hk hw h40 hO2 e1 e2 (hA1 a1 e1) (hA2 a2 e2) (h59.pu hP2 (Or.inl (by decide))) (fun z1 z2 => (h60 a2 e2 z1 z2).pu hP2 (Or.inl (by decide)))) ?_
        rintro r S3 ⟨rfl, g1, g2, g3, g4, g5, g6, g7⟩
        generalize stRun t.length (x, false, du, pu, re) (h9, o9, fi, mk, nn, rp) a1 a2 R.2.2 = RR at g5 g6 g7 ⊢
        obtain ⟨v1, v2⟩ := RR
        have hm3 := g4.2.1
        have h573 := g3 _ h572
        have fin : ∀ S4, Pu S3 S4 58 m → Fi S4 58 m (b2i v1) → StW S4 K la q oq ar pq dq t ((x, false, du, pu, re), (h9, o9, fi, mk, nn, rp), st, tu, ov, ru) cap B ∧ XS K (fun k => k = m) (fun _ => False) S S4 ∧ Or0 S4 F False m od ∧ RnI S4 t.length m od (tu, v1, v2) := fun S4 hP4 h584 =>
          ⟨g1.puO hP4 hm3 km, ((XS.pu (K := K) (F := fun k => k = m) (W := fun _ => False) XS.rf rfl hm ⟨by decide, by decide⟩ hP2).tr g2).pu (F := fun k => k = m) rfl hm3 ⟨by decide, by decide⟩ hP4, g4.puF hP4 hm3 ⟨by decide, by decide⟩, h573.pu hP4 (Or.inl (by decide)), h584, g5.pu hP4 (Or.inl (by decide)), fun b eb z1 z2 => by
            rw [e2] at eb; cases eb
            exact (g6 z1 z2).pu hP4 (Or.inl (by decide)), fun z => (g7 z).pu hP4 (Or.inl (by decide))⟩
        cases v1 with
        | true =>
          dsimp only
          first | (refine CW.putr rfl rfl (by assumption) rfl (by decide) (fun S4 hP4 h584 => ?_)) | (refine CW.puti rfl (by assumption) rfl (by decide) (by first | exact Or.inl ⟨rfl, by first | omega | decide | (constructor <;> first | omega | decide)⟩ | exact Or.inr (Or.inl ⟨rfl, by first | omega | decide | (constructor <;> first | omega | decide)⟩) | exact Or.inr (Or.inr (Or.inl ⟨rfl, by first | omega | decide | (constructor <;> first | omega | decide)⟩)) | exact Or.inr (Or.inr (Or.inr ⟨rfl, by first | omega | decide | (constructor <;> first | omega | decide)⟩))) (fun S4 hP4 h584 => ?_))
          have f4 := fin S4 hP4 h584
          have hm4 := f4.2.2.1.2.1
          replace h584 : Fi S4 58 m 1 := h584
          (repeat (first | (refine BW.pl rfl rfl ?_) | (refine CW.geti rfl rfl (by assumption) rfl rfl (by assumption) (fun _ => ?_)) | (refine CW.getr rfl rfl (by assumption) rfl rfl (by assumption) ?_)))
          exact BW.irx rfl (Or.inr (Or.inl ⟨rfl, Or.inr rfl⟩)) ⟨_, rfl, rfl, f4⟩
        | false =>
          dsimp only
          first | (refine CW.putr rfl rfl (by assumption) rfl (by decide) (fun S4 hP4 h584 => ?_)) | (refine CW.puti rfl (by assumption) rfl (by decide) (by first | exact Or.inl ⟨rfl, by first | omega | decide | (constructor <;> first | omega | decide)⟩ | exact Or.inr (Or.inl ⟨rfl, by first | omega | decide | (constructor <;> first | omega | decide)⟩) | exact Or.inr (Or.inr (Or.inl ⟨rfl, by first | omega | decide | (constructor <;> first | omega | decide)⟩)) | exact Or.inr (Or.inr (Or.inr ⟨rfl, by first | omega | decide | (constructor <;> first | omega | decide)⟩))) (fun S4 hP4 h584 => ?_))
          have f4 := fin S4 hP4 h584
          have hm4 := f4.2.2.1.2.1
          replace h584 : Fi S4 58 m 0 := h584
          (repeat (first | (refine BW.pl rfl rfl ?_) | (refine CW.geti rfl rfl (by assumption) rfl rfl (by assumption) (fun _ => ?_)) | (refine CW.getr rfl rfl (by assumption) rfl rfl (by assumption) ?_)))
          exact BW.irx rfl (Or.inr (Or.inl ⟨rfl, Or.inl rfl⟩)) ⟨_, rfl, rfl, f4⟩
end AT
