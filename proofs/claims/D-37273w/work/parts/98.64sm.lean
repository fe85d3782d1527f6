-- C
set_option maxRecDepth 100000
/-! LINEORDERS: sample -/
section SM
variable {d n m q i a b e y cap c k j pl B B' p F0 cl re l len jj kk9 : Nat} {S S' S0 S1 S2 S3 : BS} {K : Nat → Nat} {la la' : Int → Nat} {A A1 : St} {F V : Nat → Prop} {v nn x1 x2 x3 x z xj b1 : Int} {r : Option Nat} {t : List SLine} {xs ws : List (Option Nat)} {ds : List SDeed} {tp s acc : List Int} {sc : Nat → Option (List Int)} {rows : List (List Int)} {w : PW} {cs : List Nat} {R : Nat ⊕ Int} {rg : GO} {M : GMeth} {ls : GL} {st : List GV} {Q : GO → BS → Prop} {v8 : Option GV}
theorem BW.divV (hC : M.2.2.1[i]? = some (18, 3, b1)) (h1 : 0 ≤ x1 ∧ x1 < 2147483648) (h2 : 0 < x2 ∧ x2 < 2147483648) (h : x1 / x2 = x3) (kk : BW d M (i + 1) ls (.inl x3 :: st) S Q) : BW d M i ls (.inl x2 :: .inl x1 :: st) S Q := by
  subst h
  refine BW.binV hC ?_ kk
  show (if (0 ≤ x1 ∧ x1 < 2147483648) ∧ 0 < x2 ∧ x2 < 2147483648 then some (x1 / x2) else none) = _
  rw [if_pos ⟨h1, h2⟩]
theorem smpR_e : smpR (n + 1) x = ((if lcg x / 16 % 6 = 5 then 32 else 97 + lcg x / 16 % 6) :: (smpR n (lcg x)).1, (smpR n (lcg x)).2) := rfl
theorem smpL_e : smpL (n + 1) x = (smpR (lcg x / 16 % 9).toNat (lcg x)).1 :: smpL n (smpR (lcg x / 16 % 9).toNat (lcg x)).2 := rfl
theorem lcg_R : 0 ≤ lcg x ∧ lcg x < 65536 := by unfold lcg; omega
theorem smpR_R : ∀ (n : Nat) (x : Int), 0 ≤ x ∧ x < 65536 → 0 ≤ (smpR n x).2 ∧ (smpR n x).2 < 65536 := by
  intro n
  induction n with
  | zero => intro x h; exact h
  | succ n ih => intro x h; rw [smpR_e]; exact ih _ lcg_R
theorem smpR_len : ∀ (n : Nat) (x : Int), (smpR n x).1.length = n := by
  intro n
  induction n with
  | zero => intro x; rfl
  | succ n ih => intro x; rw [smpR_e]; show (smpR n (lcg x)).1.length + 1 = n + 1; rw [ih]
theorem smpL_len : ∀ (n : Nat) (x : Int), (smpL n x).length = n := by
  intro n
  induction n with
  | zero => intro x; rfl
  | succ n ih => intro x; rw [smpL_e, List.length_cons, ih]
/-- the next number by chance, from its push on -/
theorem smp_row {v0 v1 v2 : GV} : ∀ (N j : Nat) (acc : List Int) (xj : Int) (S3 : BS) (v8 : Option GV), gn1 v8 = true → (gn1 (some v0) = true ∧ gn1 (some v1) = true ∧ gn1 (some v2) = true) → j + N = len → len ≤ 8 → acc.length = j → 0 ≤ xj ∧ xj < 65536 → Ob S3 b (oSb acc 16) → Fr S2 S3 (fun m => m = b) 0 → (∀ (S4 : BS) (v8 : Option GV), gn1 v8 = true → Ob S4 b (oSb (acc ++ (smpR N xj).1) 16) → Fr S2 S4 (fun m => m = b) 0 → BW (d + 20) gm_X1_sample 99 [some v0, some v1, some v2, some (aI (smpR N xj).2), some (aI jj), some (aI len), some (aR b), some (aI len), v8] [] S4 Q) → BW (d + 20) gm_X1_sample 68 [some v0, some v1, some v2, some (aI xj), some (aI jj), some (aI len), some (aR b), some (aI j), v8] [] S3 Q := by
  intro N
  induction N with
  | zero =>
    intro j acc xj S3 v8 g8 g012 hj hl8 hal hxj hb hF kk
    obtain rfl : j = len := by omega
    (repeat (refine BW.pl rfl rfl ?_))
    refine BW.br rfl rfl (by first | omega | decide | (constructor <;> first | omega | decide)) (fun w => ?_) (fun w => by first | (exfalso; omega) | exact absurd w (by decide))
    have h := kk S3 v8 g8 (by show Ob S3 b (oSb (acc ++ []) 16); rw [List.append_nil]; exact hb) hF
    exact h
  | succ N ih =>
    intro j acc xj S3 v8 g8 g012 hj hl8 hal hxj hb hF kk
    obtain ⟨e0, e1, e2⟩ := id g012
    have hxn := lcg_R (x := xj)
    have eL : lcg xj = (25173 * xj + 13849) % 65536 := rfl
    rw [smpR_e] at kk
    (repeat (refine BW.pl rfl rfl ?_))
    refine BW.br rfl rfl (by first | omega | decide | (constructor <;> first | omega | decide)) (fun w => by first | (exfalso; omega) | exact absurd w (by decide)) (fun w => ?_)
    (repeat (refine BW.pl rfl rfl ?_))
    refine BW.remV (x3 := lcg xj) rfl ⟨by omega, by omega⟩ ⟨by decide, by decide⟩ rfl ?_
    refine BW.stiV rfl rfl (by simp only [List.set, List.all_cons, List.all_nil, e0, e1, e2, g8]; rfl) ?_
    (repeat (refine BW.pl rfl rfl ?_))
    refine BW.divV (x3 := lcg xj / 16) rfl ⟨by omega, by omega⟩ ⟨by decide, by decide⟩ rfl ?_
    (repeat (refine BW.pl rfl rfl ?_))
    refine BW.remV (x3 := lcg xj / 16 % 6) rfl ⟨by omega, by omega⟩ ⟨by decide, by decide⟩ rfl ?_
    refine BW.stiV rfl rfl (by simp only [List.set, List.all_cons, List.all_nil, e0, e1, e2, g8]; rfl) ?_
    have go : ∀ sg : Int, sg = (if lcg xj / 16 % 6 = 5 then 32 else 97 + lcg xj / 16 % 6) → BW (d + 20) gm_X1_sample 95 [some v0, some v1, some v2, some (aI (lcg xj)), some (aI jj), some (aI len), some (aR b), some (aI j), some (aI (lcg xj / 16 % 6))] [.inl sg, aR b] S3 Q := fun sg hsg => by
      have hsr : 0 ≤ sg ∧ sg < 128 := by rw [hsg]; split <;> omega
      refine CW.c2 rfl rfl (by first | exact Or.inl rfl | exact Or.inr (tagO (by assumption) (by rfl) (by rfl)) | exact Or.inr (tagO (AdrIs.ox (by assumption)) (by rfl) (by rfl)) | exact Or.inr (tagO (PatIs.ox (by assumption)) (by rfl) (by rfl)) | exact Or.inr (tagO (Or0.ox (by assumption)) (by rfl) (by rfl))) (by first | exact Or.inl (by decide) | exact Or.inr ⟨_, rfl, by assumption⟩) rfl (C_sbAppC hb hsr (by omega)) ?_
      rintro r S4 ⟨rfl, cap', hb4, hF4, hc1, hc2⟩
      rw [List.length_append, List.length_singleton] at hc2
      obtain rfl : cap' = 16 := by omega
      (iterate 1 (refine BW.pl rfl rfl ?_))
      refine BW.incV rfl rfl rfl (by simp only [List.set, List.all_cons, List.all_nil, e0, e1, e2]; rfl) ?_
      (iterate 1 (refine BW.pl rfl rfl ?_))
      have ej : (j : Int) + 1 = ((j + 1 : Nat) : Int) := by omega
      show BW (d + 20) gm_X1_sample 68 [some v0, some v1, some v2, some (aI (lcg xj)), some (aI jj), some (aI len), some (aR b), some (aI ((j : Int) + 1)), some (aI (lcg xj / 16 % 6))] [] S4 Q
      rw [ej]
      refine ih (j + 1) (acc ++ [sg]) (lcg xj) S4 _ rfl g012 (by omega) hl8 (by rw [List.length_append, List.length_singleton, hal]) hxn hb4 ((hF.tr hF4 (fun _ _ z => z)).w (fun _ _ z => z) (by omega)) (fun S5 v9 g9 hb5 hF5 => ?_)
      rw [List.append_assoc, hsg] at hb5
      exact kk S5 v9 g9 hb5 hF5
    (repeat (refine BW.pl rfl rfl ?_))
    by_cases z5 : lcg xj / 16 % 6 = 5
    · refine BW.br rfl rfl (by first | omega | decide | (constructor <;> first | omega | decide)) (fun w5 => by first | (exfalso; omega) | exact absurd w5 (by decide)) (fun w5 => ?_)
      (repeat (refine BW.pl rfl rfl ?_))
      exact go 32 (by rw [if_pos z5])
    · refine BW.br rfl rfl (by first | omega | decide | (constructor <;> first | omega | decide)) (fun w5 => ?_) (fun w5 => by first | (exfalso; omega) | exact absurd w5 (by decide))
      (repeat (refine BW.pl rfl rfl ?_))
      refine BW.i2c rfl ⟨by omega, by omega⟩ ?_
      exact go (97 + lcg xj / 16 % 6) (by rw [if_neg z5])
/-- lines by chance are laid, from the head of their loop on -/
theorem smp_lines {G : BG} {kx : Int} (hl20 : kk9 ≤ 20) (h40 : t.length + kk9 ≤ 40) (hn0 : G.2.2.2.2.1 < 1900000) (hB : B + 10000 ≤ 20000000) (hx0 : inR x) : ∀ (N j : Nat) (rows : List (List Int)) (xj : Int) (la3 : Int → Nat) (S3 : BS) (v5 v6 v7 v8 : Option GV), gn1 v5 = true → gn1 v6 = true → gn1 v7 = true → gn1 v8 = true → j + N = kk9 → rows.length = j → 0 ≤ xj ∧ xj < 65536 → LO S3 K la3 (t ++ mkL G.2.2.2.2.1 rows, p, addN G j) (B + 140 * j) → XF K (fun _ => False) S S3 → LaE la la3 G.2.2.2.2.1 → (∀ (S4 : BS) (la4 : Int → Nat) (v3 v5 v6 v7 v8 : Option GV), gn1 v3 = true → gn1 v5 = true → gn1 v6 = true → gn1 v7 = true → gn1 v8 = true → LO S4 K la4 (t ++ mkL G.2.2.2.2.1 (rows ++ smpL N xj), p, addN G kk9) (B + 140 * kk9) → XF K (fun _ => False) S S4 → LaE la la4 G.2.2.2.2.1 → BW (d + 20) gm_X1_sample 108 [some (aR (K 1)), some (aI x), some (aI kk9), v3, some (aI kk9), v5, v6, v7, v8] [] S4 Q) → BW (d + 20) gm_X1_sample 45 [some (aR (K 1)), some (aI x), some (aI kk9), some (aI xj), some (aI j), v5, v6, v7, v8] [] S3 Q := by
  intro N
  induction N with
  | zero =>
    intro j rows xj la3 S3 v5 v6 v7 v8 g5 g6 g7 g8 hj hrl hxj hL3 hX3 hE3 kk
    obtain rfl : j = kk9 := by omega
    (repeat (refine BW.pl rfl rfl ?_))
    refine BW.br rfl rfl (by first | omega | decide | (constructor <;> first | omega | decide)) (fun w => ?_) (fun w => by first | (exfalso; omega) | exact absurd w (by decide))
    exact kk S3 la3 _ v5 v6 v7 v8 rfl g5 g6 g7 g8 (by rw [show smpL 0 xj = [] from rfl, List.append_nil]; exact hL3) hX3 hE3
  | succ N ih =>
    intro j rows xj la3 S3 v5 v6 v7 v8 g5 g6 g7 g8 hj hrl hxj hL3 hX3 hE3 kk
    have hxn := lcg_R (x := xj)
    have eL : lcg xj = (25173 * xj + 13849) % 65536 := rfl
    obtain ⟨htt, _⟩ := hL3.1.tt
    rw [smpL_e] at kk
    obtain ⟨len, hlen⟩ : ∃ len, len = (lcg xj / 16 % 9).toNat := ⟨_, rfl⟩
    rw [← hlen] at kk
    have elen : lcg xj / 16 % 9 = (len : Int) := by omega
    have hl8 : len ≤ 8 := by omega
    (repeat (refine BW.pl rfl rfl ?_))
    refine BW.br rfl rfl (by first | omega | decide | (constructor <;> first | omega | decide)) (fun w => by first | (exfalso; omega) | exact absurd w (by decide)) (fun w => ?_)
    (repeat (refine BW.pl rfl rfl ?_))
    refine BW.remV (x3 := lcg xj) rfl ⟨by omega, by omega⟩ ⟨by decide, by decide⟩ rfl ?_
    refine BW.stiV rfl rfl (by simp only [List.set, List.all_cons, List.all_nil, g5, g6, g7, g8]; rfl) ?_
    (repeat (refine BW.pl rfl rfl ?_))
    refine BW.divV (x3 := lcg xj / 16) rfl ⟨by omega, by omega⟩ ⟨by decide, by decide⟩ rfl ?_
    (repeat (refine BW.pl rfl rfl ?_))
    refine BW.remV (x3 := (len : Int)) rfl ⟨by omega, by omega⟩ ⟨by decide, by decide⟩ elen ?_
    refine BW.stiV rfl rfl (by simp only [List.set, List.all_cons, List.all_nil, g5, g6, g7, g8]; rfl) ?_
    refine CW.newJ (L := 4) (c := 14) rfl rfl rfl (fun b S4 hN => ?_)
    have hb := hN.ob
    have hbk := hN.1
    have hbz := hN.nil
    have hko := hL3.1.ko hbz
    have hL4 := hL3.fr hN.fr LoW.no (by omega)
    (repeat (refine BW.pl rfl rfl ?_))
    refine CW.c1 rfl rfl (by first | exact Or.inl rfl | exact Or.inr (tagO (by assumption) (by rfl) (by rfl)) | exact Or.inr (tagO (AdrIs.ox (by assumption)) (by rfl) (by rfl)) | exact Or.inr (tagO (PatIs.ox (by assumption)) (by rfl) (by rfl)) | exact Or.inr (tagO (Or0.ox (by assumption)) (by rfl) (by rfl))) (by first | exact Or.inl (by decide) | exact Or.inr ⟨_, rfl, by assumption⟩) rfl (C_sbNew hb) ?_
    rintro r S5 ⟨rfl, hb5, hF5⟩
    have hL5 := hL4.fr hF5 (LoW.one hko hb (oNe rfl) rfl) (by omega)
    have hX5 : XF K (fun _ => False) S S5 := (hX3.nw hN).f1 hF5 (fun z => absurd (hX3.nil hbz) z)
    refine BW.strV rfl rfl (by simp only [List.set, List.all_cons, List.all_nil, g5, g6, g7, g8]; rfl) ?_
    (iterate 1 (refine BW.pl rfl rfl ?_))
    refine BW.stiV rfl rfl (by simp only [List.set, List.all_cons, List.all_nil, g5, g6, g7, g8]; rfl) ?_
    refine smp_row (d := d) (S2 := S5) (len := len) len 0 [] (lcg xj) S5 v8 g8 ⟨rfl, rfl, rfl⟩ (by omega) hl8 rfl hxn hb5 Fr.rf (fun S6 v9 g9 hb6 hF6 => ?_)
    rw [List.nil_append] at hb6
    generalize hrow : (smpR len (lcg xj)).1 = row at hb6 kk
    have hrw : row.length = len := by rw [← hrow]; exact smpR_len _ _
    have hxr := smpR_R len (lcg xj) hxn
    generalize (smpR len (lcg xj)).2 = x9 at hxr kk ⊢
    have hbS5 : Ob S5 b (oSb [] 16) := hb5
    have hL6 := hL5.fr hF6 (LoW.one hko hbS5 (oNe rfl) rfl) (by omega)
    have hX6 : XF K (fun _ => False) S S6 := hX5.f1 hF6 (fun z => absurd (hX3.nil hbz) z)
    have hx6 := hL6.1.obx
    have e36 := hL6.1.e3
    (repeat (first | (refine BW.pl rfl rfl ?_) | (refine CW.geti rfl rfl (by assumption) rfl rfl (by assumption) (fun _ => ?_)) | (refine CW.getr rfl rfl (by assumption) rfl rfl (by assumption) ?_)))
    refine CW.c1 rfl rfl (by first | exact Or.inl rfl | exact Or.inr (tagO (by assumption) (by rfl) (by rfl)) | exact Or.inr (tagO (AdrIs.ox (by assumption)) (by rfl) (by rfl)) | exact Or.inr (tagO (PatIs.ox (by assumption)) (by rfl) (by rfl)) | exact Or.inr (tagO (Or0.ox (by assumption)) (by rfl) (by rfl))) (by first | exact Or.inl (by decide) | exact Or.inr ⟨_, rfl, by assumption⟩) rfl (C_sbStr hb6) ?_
    rintro r S7 ⟨y, rfl, hyk, hyz, hy, hF7⟩
    have hL7 := hL6.fr hF7 LoW.no (by omega)
    have hX7 := hX6.f0 hF7
    obtain ⟨mc7, hT7⟩ := hL7.1.text
    have hT7 : Ob S7 (K 3) (oLl (lsOf la3 (idsOfL (t ++ mkL G.2.2.2.2.1 rows))) mc7) := hT7
    have hx7 := hL7.1.obx
    have hids := hL7.1.2.2.1.2.2
    have hL7b : LB S7 K la3 (idsOfL (t ++ mkL G.2.2.2.2.1 rows)) p (addN G j) _ := hL7.1
    have hRw7 : RowsI S7 la3 (G.2.2.2.2.1 + (j : Int)) (t ++ mkL G.2.2.2.2.1 rows) := hL7.2
    have hids : ∀ x ∈ idsOfL (t ++ mkL G.2.2.2.2.1 rows), 0 ≤ x ∧ x < G.2.2.2.2.1 + (j : Int) := hids
    refine CW.c2 rfl rfl (by first | exact Or.inl rfl | exact Or.inr (tagO (by assumption) (by rfl) (by rfl)) | exact Or.inr (tagO (AdrIs.ox (by assumption)) (by rfl) (by rfl)) | exact Or.inr (tagO (PatIs.ox (by assumption)) (by rfl) (by rfl)) | exact Or.inr (tagO (Or0.ox (by assumption)) (by rfl) (by rfl))) (by first | exact Or.inl (by decide) | exact Or.inr ⟨_, rfl, by assumption⟩) rfl (L_makeLine (d := d + 18) (V := fun _ => False) hL7b hy (fun y' z => by cases z; exact Or.inl hyk) (by show G.2.2.2.2.1 + (j : Int) + 1 < 2000000; omega) (by omega)) ?_
    rintro r S8 ⟨m, rfl, hm0, hm6, hL8, hRi8, hX78, hF8⟩
    have hK13 : K 3 ≠ K 1 := hT7.ne hx7 (oNe rfl)
    have hT8 := hT7.fr hF8 ⟨oNe rfl, hK13⟩
    have hlt : (lsOf la3 (idsOfL (t ++ mkL G.2.2.2.2.1 rows))).length = t.length + j := by rw [lsOf_len, ids_len, List.length_append, mkL_len, hrl]
    obtain ⟨htt8, _⟩ := hL8.tt
    have hRw8 := (hRw7.xf hX78 (fun _ _ z => z) hL7b).upl (m := m) (show G.2.2.2.2.1 + (j : Int) ≤ G.2.2.2.2.1 + (j : Int) + 1 by omega)
    refine CW.c2 rfl rfl (by first | exact Or.inl rfl | exact Or.inr (tagO (by assumption) (by rfl) (by rfl)) | exact Or.inr (tagO (AdrIs.ox (by assumption)) (by rfl) (by rfl)) | exact Or.inr (tagO (PatIs.ox (by assumption)) (by rfl) (by rfl)) | exact Or.inr (tagO (Or0.ox (by assumption)) (by rfl) (by rfl))) (by first | exact Or.inl (by decide) | exact Or.inr ⟨_, rfl, by assumption⟩) rfl (C_llAdd hT8 (vOk_o hm6 rfl) (by omega) (by omega)) ?_
    rintro r S9 ⟨rfl, hT9, hF9⟩
    have emk : mkL G.2.2.2.2.1 (rows ++ [row]) = mkL G.2.2.2.2.1 rows ++ [(G.2.2.2.2.1 + j, row)] := by rw [mkL_app, hrl]
    have et : t ++ mkL G.2.2.2.2.1 (rows ++ [row]) = (t ++ mkL G.2.2.2.2.1 rows) ++ [(G.2.2.2.2.1 + (j : Int), row)] := by rw [emk, List.append_assoc]
    have eids : idsOfL (t ++ mkL G.2.2.2.2.1 (rows ++ [row])) = idsOfL (t ++ mkL G.2.2.2.2.1 rows) ++ [G.2.2.2.2.1 + (j : Int)] := by rw [et, idsOfL_app]; rfl
    have els : lsOf la3 (idsOfL (t ++ mkL G.2.2.2.2.1 rows)) ++ [some m] = lsOf (upL la3 (G.2.2.2.2.1 + j) m) (idsOfL (t ++ mkL G.2.2.2.2.1 (rows ++ [row]))) := by
      rw [eids, lsOf_app, lsOf_up (fun x hx => (hids x hx).2)]
      show _ = lsOf la3 _ ++ [some (upL la3 (G.2.2.2.2.1 + j) m (G.2.2.2.2.1 + j))]
      rw [show upL la3 (G.2.2.2.2.1 + j) m (G.2.2.2.2.1 + j) = m from if_pos rfl]
    rw [els] at hT9
    have hL9 := hL8.setText hF9 LoX.k hT9 (fun x hx => by
      rw [eids] at hx
      show 0 ≤ x ∧ x < G.2.2.2.2.1 + (j : Int) + 1
      rcases List.mem_append.mp hx with hx | hx
      · have := hids x hx
        omega
      · have h9 := List.mem_singleton.mp hx
        have := hL7b.nR
        have : 0 ≤ G.2.2.2.2.1 + (j : Int) := this.1
        omega) (by omega)
    rw [incN_add] at hL9
    have w6 : W6 S8 (fun k => k = K 3) := W6.one hT8 (oNe rfl) rfl
    have hRw9 := hRw8.f6 hF9 w6
    have hRi9 := hRi8.f6 hF9 w6
    have hX9 := (hX7.tr hX78).f1 hF9 (fun _ => hL8.wk (by decide))
    have hRw9' : RowsI S9 (upL la3 (G.2.2.2.2.1 + j) m) (G.2.2.2.2.1 + ((j + 1 : Nat) : Int)) (t ++ mkL G.2.2.2.2.1 (rows ++ [row])) := by
      rw [et]
      have e1 : G.2.2.2.2.1 + ((j + 1 : Nat) : Int) = G.2.2.2.2.1 + (j : Int) + 1 := by omega
      rw [e1]
      intro q hq
      rcases List.mem_append.mp hq with hq | hq
      · exact hRw9 q hq
      · rw [List.mem_singleton.mp hq]; exact hRi9
    refine BW.incV rfl rfl rfl (by simp only [List.set, List.all_cons, List.all_nil, g9]; rfl) ?_
    (iterate 1 (refine BW.pl rfl rfl ?_))
    have ej : (j : Int) + 1 = ((j + 1 : Nat) : Int) := by omega
    show BW (d + 20) gm_X1_sample 45 [some (aR (K 1)), some (aI x), some (aI kk9), some (aI x9), some (aI ((j : Int) + 1)), some (aI len), some (aR b), some (aI len), v9] [] S9 Q
    rw [ej]
    refine ih (j + 1) (rows ++ [row]) x9 _ S9 _ _ _ v9 rfl rfl rfl g9 (by omega) (by rw [List.length_append, List.length_singleton, hrl]) hxr ⟨hL9.le (by omega) (by omega), hRw9'⟩ hX9 (hE3.tr LaE.up (show G.2.2.2.2.1 ≤ G.2.2.2.2.1 + (j : Int) by omega)) (fun S4 la4 v3 v5 v6 v7 v8 h3 h5 h6 h7 h8 hL4 hX4 hE4 => ?_)
    rw [List.append_assoc] at hL4
    exact kk S4 la4 v3 v5 v6 v7 v8 h3 h5 h6 h7 h8 hL4 hX4 hE4
theorem L_sample (h : PwI S K la tp sc A ds cl re B) (hw : PwK (tp, sc, A, ds, cl, re)) (hx : inR x) (hz : inR z) (hB : B + 50000 ≤ 20000000) : BM (d + 21) gk_X1_sample [aR (K 1), aI x, aI z] S (PuX K (pSample x z (tp, sc, A, ds, cl, re)).2 (B + 4000) [200, 201] (pSample x z (tp, sc, A, ds, cl, re)).1) := by
  have h0 := h
  obtain ⟨-, -, k3, k4, k5, k6, k7⟩ := hw
  have k4 : ∀ q ∈ ds, DqK A.2.2.2.2.2.2.1 q := k4
  have k5 : ds.length ≤ 40 := k5
  have k3 : WF A := k3
  have k6 : cl < 1000 := k6
  have k7 : A.2.2.2.2.2.2.1 < 1800000 := k7
  have h40 := k3.2.1
  obtain ⟨cap, hcap, hL, hD, hR, h11, h12⟩ := h
  have hxb := hL.1.obx
  have no : ¬ ((0 ≤ x ∧ x ≤ 65535) ∧ 1 ≤ z ∧ z ≤ 20) → BW (d + 20) gm_X1_sample 14 [some (aR (K 1)), some (aI x), some (aI z), none, none, none, none, none, none] [] S (PuX K (pSample x z (tp, sc, A, ds, cl, re)).2 (B + 4000) [200, 201] (pSample x z (tp, sc, A, ds, cl, re)).1) := fun hn => by
    have e : pSample x z (tp, sc, A, ds, cl, re) = (.inl 1, tp, sc, A, ds, cl, re) := by unfold pSample; rw [if_pos hn]
    rw [e]
    (repeat (refine BW.pl rfl rfl ?_))
    refine CW.tst rfl rfl (by decide) rfl (Or.inr (Or.inr ⟨rfl, rfl⟩)) (Or.inl rfl) rfl (fun w => absurd w (by decide)) (fun _ S3 hF3 => ?_)
    exact PuX.no h0 hF3 (by omega) (by omega) rfl rfl
  refine BM.of rfl rfl rfl ?_
  (repeat (refine BW.pl rfl rfl ?_))
  refine BW.i2l rfl hx ?_
  (repeat (refine BW.pl rfl rfl ?_))
  refine CW.e3 rfl rfl (by first | exact Or.inl rfl | exact Or.inr (tagO (by assumption) (by rfl) (by rfl)) | exact Or.inr (tagO (AdrIs.ox (by assumption)) (by rfl) (by rfl)) | exact Or.inr (tagO (PatIs.ox (by assumption)) (by rfl) (by rfl)) | exact Or.inr (tagO (Or0.ox (by assumption)) (by rfl) (by rfl))) (by first | exact Or.inl (by decide) | exact Or.inr ⟨_, rfl, by assumption⟩) rfl (B_in hx (by decide) (by decide)) ?_
  by_cases z1 : 0 ≤ x ∧ x ≤ 65535
  rotate_left
  · rw [if_neg z1]
    refine BW.br rfl rfl (by first | omega | decide | (constructor <;> first | omega | decide)) (fun w => ?_) (fun w => by first | (exfalso; omega) | exact absurd w (by decide))
    exact no (fun hh => z1 hh.1)
  rw [if_pos z1]
  refine BW.br rfl rfl (by first | omega | decide | (constructor <;> first | omega | decide)) (fun w => by first | (exfalso; omega) | exact absurd w (by decide)) (fun w => ?_)
  (repeat (refine BW.pl rfl rfl ?_))
  refine BW.i2l rfl hz ?_
  (repeat (refine BW.pl rfl rfl ?_))
  refine CW.e3 rfl rfl (by first | exact Or.inl rfl | exact Or.inr (tagO (by assumption) (by rfl) (by rfl)) | exact Or.inr (tagO (AdrIs.ox (by assumption)) (by rfl) (by rfl)) | exact Or.inr (tagO (PatIs.ox (by assumption)) (by rfl) (by rfl)) | exact Or.inr (tagO (Or0.ox (by assumption)) (by rfl) (by rfl))) (by first | exact Or.inl (by decide) | exact Or.inr ⟨_, rfl, by assumption⟩) rfl (B_in hz (by decide) (by decide)) ?_
  by_cases z2 : 1 ≤ z ∧ z ≤ 20
  rotate_left
  · rw [if_neg z2]
    refine BW.br rfl rfl (by first | omega | decide | (constructor <;> first | omega | decide)) (fun w2 => ?_) (fun w2 => by first | (exfalso; omega) | exact absurd w2 (by decide))
    exact no (fun hh => z2 hh.2)
  rw [if_pos z2]
  have ok : ¬ ¬ ((0 ≤ x ∧ x ≤ 65535) ∧ 1 ≤ z ∧ z ≤ 20) := fun hn => hn ⟨z1, z2⟩
  refine BW.br rfl rfl (by first | omega | decide | (constructor <;> first | omega | decide)) (fun w2 => by first | (exfalso; omega) | exact absurd w2 (by decide)) (fun w2 => ?_)
  (repeat (refine BW.pl rfl rfl ?_))
  refine CW.tst rfl rfl (by decide) rfl (Or.inr (Or.inr ⟨rfl, rfl⟩)) (Or.inr rfl) rfl (fun _ => ?_) (fun w _ _ => absurd w (by decide))
  have e3 := hL.1.e3
  obtain ⟨mc, hT⟩ := hL.1.text
  (repeat (first | (refine BW.pl rfl rfl ?_) | (refine CW.geti rfl rfl (by assumption) rfl rfl (by assumption) (fun _ => ?_)) | (refine CW.getr rfl rfl (by assumption) rfl rfl (by assumption) ?_)))
  refine CW.e1 rfl rfl (by first | exact Or.inl rfl | exact Or.inr (tagO (by assumption) (by rfl) (by rfl)) | exact Or.inr (tagO (AdrIs.ox (by assumption)) (by rfl) (by rfl)) | exact Or.inr (tagO (PatIs.ox (by assumption)) (by rfl) (by rfl)) | exact Or.inr (tagO (Or0.ox (by assumption)) (by rfl) (by rfl))) (by first | exact Or.inl (by decide) | exact Or.inr ⟨_, rfl, by assumption⟩) rfl (B_llSize hT) ?_
  rw [lsOf_len, ids_len]
  (repeat (refine BW.pl rfl rfl ?_))
  by_cases z3 : 40 < (A.1.length : Int) + z
  · have e : pSample x z (tp, sc, A, ds, cl, re) = (.inl 2, tp, sc, A, ds, cl, re) := by unfold pSample; rw [if_neg ok, if_pos z3]
    rw [e]
    refine BW.br rfl rfl (by first | omega | decide | (constructor <;> first | omega | decide)) (fun w3 => ?_) (fun w3 => by first | (exfalso; omega) | exact absurd w3 (by decide))
    (repeat (refine BW.pl rfl rfl ?_))
    refine CW.tst rfl rfl (by decide) rfl (Or.inr (Or.inl ⟨rfl, rfl⟩)) (Or.inl rfl) rfl (fun w => absurd w (by decide)) (fun _ S3 hF3 => ?_)
    exact PuX.no h0 hF3 (by omega) (by omega) rfl rfl
  have e : pSample x z (tp, sc, A, ds, cl, re) = (.inr ((A.1.length : Int) + z), tp, sc, smpA A (smpL z.toNat x), keepD ds (cl + 1, A.1, A.2.1, A.2.2.2.2.2.1), cl + 1, re) := by unfold pSample; rw [if_neg ok, if_neg z3]
  rw [e]
  refine BW.br rfl rfl (by first | omega | decide | (constructor <;> first | omega | decide)) (fun w3 => by first | (exfalso; omega) | exact absurd w3 (by decide)) (fun w3 => ?_)
  (repeat (refine BW.pl rfl rfl ?_))
  refine CW.tst rfl rfl (by decide) rfl (Or.inr (Or.inl ⟨rfl, rfl⟩)) (Or.inr rfl) rfl (fun _ => ?_) (fun w _ _ => absurd w (by decide))
  (repeat (first | (refine BW.pl rfl rfl ?_) | (refine CW.geti rfl rfl (by assumption) rfl rfl (by assumption) (fun _ => ?_)) | (refine CW.getr rfl rfl (by assumption) rfl rfl (by assumption) ?_)))
  first | (refine CW.putr rfl rfl (by assumption) rfl (by decide) (fun S1 hP1 h111 => ?_)) | (refine CW.puti rfl (by assumption) rfl (by decide) (by first | exact Or.inl ⟨rfl, by first | omega | decide | (constructor <;> first | omega | decide)⟩ | exact Or.inr (Or.inl ⟨rfl, by first | omega | decide | (constructor <;> first | omega | decide)⟩) | exact Or.inr (Or.inr (Or.inl ⟨rfl, by first | omega | decide | (constructor <;> first | omega | decide)⟩)) | exact Or.inr (Or.inr (Or.inr ⟨rfl, by first | omega | decide | (constructor <;> first | omega | decide)⟩))) (fun S1 hP1 h111 => ?_))
  have hx1 := hxb.pu hP1 trivial
  have hL1 := hL.puN11 hP1 (Or.inl rfl)
  have hD1 := hD.pu hP1
  have hR1 := hR.pu hP1 (by decide)
  have h112 : Fi S1 11 (K 1) ((cl + 1 : Nat) : Int) := by
    have e9 : (cl : Int) + 1 = ((cl + 1 : Nat) : Int) := by omega
    rw [← e9]; exact h111
  have h122 := h12.pu hP1 (Or.inl (by decide))
  (repeat (refine BW.pl rfl rfl ?_))
  refine CW.newO (L := 6) (c := 4) rfl rfl rfl rfl (fun m S2 hN => ?_)
  have hX2 : XF K (fun _ => True) S1 S2 := XF.rf.nw hN
  have hL2 := hL1.fr hN.fr LoW.no (by omega)
  have hm := hN.ob
  have hmk := hN.1
  have hko := hL1.1.ko hN.nil
  have hx2 := hL2.1.obx
  have h113 := hX2.fK hL1.1 h112 (by decide)
  have h123 := hX2.fK hL1.1 h122 (by decide)
  have hD2 := hD1.xg (XG.of hX2) hL1.1
  have hR2 := hR1.xg (XG.of hX2) hL1.1 hL2.1
  (repeat (first | (refine BW.pl rfl rfl ?_) | (refine CW.geti rfl rfl (by assumption) rfl rfl (by assumption) (fun _ => ?_)) | (refine CW.getr rfl rfl (by assumption) rfl rfl (by assumption) ?_)))
  refine CW.c3 rfl rfl (by first | exact Or.inl rfl | exact Or.inr (tagO (by assumption) (by rfl) (by rfl)) | exact Or.inr (tagO (AdrIs.ox (by assumption)) (by rfl) (by rfl)) | exact Or.inr (tagO (PatIs.ox (by assumption)) (by rfl) (by rfl)) | exact Or.inr (tagO (Or0.ox (by assumption)) (by rfl) (by rfl))) (by first | exact Or.inl (by decide) | exact Or.inr ⟨_, rfl, by assumption⟩) rfl (L_deedNew (d := d + 12) (pl := cl + 1) hL2 hm hmk hko (by omega) (by omega) rfl (by omega)) ?_
  rintro r S3 ⟨rfl, hF3, hDm⟩
  have hL3 := hL2.fr hF3 (LoW.one hko hm (ownNe rfl) rfl) (by omega)
  have hX3 : XF K (fun _ => True) S1 S3 := hX2.f1 hF3 (fun z => absurd hN.nil z)
  have hD3 := hD1.xg (XG.of hX3) hL1.1
  have hR3 := hR1.xg (XG.of hX3) hL1.1 hL3.1
  have h114 := hX3.fK hL1.1 h112 (by decide)
  have h124 := hX3.fK hL1.1 h122 (by decide)
  have hx3 := hL3.1.obx
  refine CW.c2 rfl rfl (by first | exact Or.inl rfl | exact Or.inr (tagO (by assumption) (by rfl) (by rfl)) | exact Or.inr (tagO (AdrIs.ox (by assumption)) (by rfl) (by rfl)) | exact Or.inr (tagO (PatIs.ox (by assumption)) (by rfl) (by rfl)) | exact Or.inr (tagO (Or0.ox (by assumption)) (by rfl) (by rfl))) (by first | exact Or.inl (by decide) | exact Or.inr ⟨_, rfl, by assumption⟩) rfl (L_keepDeed (d := d + 15) hL3 hD3 k5 hDm hcap) ?_
  rintro r S4 ⟨rfl, cap4, hc4, hc4', hD4, hF4⟩
  obtain ⟨xs10, h10, -⟩ := hD3
  have hL4 := hL3.frK hF4 h10 (oNe rfl) rfl hL3.1.ne10 (by omega)
  have sk1 : Sep S3 (fun k => k = K 10) (K 1) := hL3.1.inj (by decide) (by decide) (by decide)
  have e3x := hL3.1.obx.old (oNe rfl)
  have hR4 := hR3.f10 hF4 h10 rfl hL3.1
  have h115 := h114.fr hF4 ⟨⟨e3x, by decide⟩, sk1⟩
  have h125 := h124.fr hF4 ⟨⟨e3x, by decide⟩, sk1⟩
  obtain ⟨t, p, G⟩ := A
  have h40 : t.length ≤ 40 := h40
  have k7 : G.2.2.2.2.1 < 1800000 := k7
  have z3 : ¬ 40 < (t.length : Int) + z := z3
  obtain ⟨kk9, hkk⟩ : ∃ kk9 : Nat, z = kk9 := ⟨z.toNat, by omega⟩
  subst hkk
  rw [show ((kk9 : Nat) : Int).toNat = kk9 by omega]
  (iterate 4 (refine BW.pl rfl rfl ?_))
  refine smp_lines (d := d) (S := S4) (la := la) (kk9 := kk9) (t := t) (p := p) (G := G) (B := B + 6 * cap4 + 500) (kx := 0) (by omega) (by omega) (by omega) (by omega) hx kk9 0 [] x la S4 none none none none rfl rfl rfl rfl (by omega) rfl ⟨by omega, by omega⟩ ?_ XF.rf LaE.rf (fun S5 la5 v3 v5 v6 v7 v8 g3 g5 g6 g7 g8 hL5 hX5 hE5 => ?_)
  · rw [addN_0]
    have : LO S4 K la (t, p, G) (B + 6 * cap4 + 500) := hL4.le (by omega) (by omega)
    show LO S4 K la (t ++ [], p, G) _
    rw [List.append_nil]
    exact this
  · rw [List.nil_append] at hL5
    have hx5 := hL5.1.obx
    have e35 := hL5.1.e3
    obtain ⟨mc5, hT5⟩ := hL5.1.text
    have hlt : (lsOf la5 (idsOfL (t ++ mkL G.2.2.2.2.1 (smpL kk9 x)))).length = t.length + kk9 := by rw [lsOf_len, ids_len, List.length_append, mkL_len, smpL_len]
    have hD5 := (hD4.xg (XG.of hX5) hL4.1).lae hE5 (fun q hq => by
      rcases keepD_mem hq with w9 | w9
      · exact k4 q w9
      · rw [w9]; exact DqK.of (cl := cl + 1) k3 (by omega))
    have hR5 := hR4.xg (XG.of hX5) hL4.1 hL5.1
    have h116 := hX5.fK hL4.1 h115 (by decide)
    have h126 := hX5.fK hL4.1 h125 (by decide)
    (repeat (first | (refine BW.pl rfl rfl ?_) | (refine CW.geti rfl rfl (by assumption) rfl rfl (by assumption) (fun _ => ?_)) | (refine CW.getr rfl rfl (by assumption) rfl rfl (by assumption) ?_)))
    refine CW.e1 rfl rfl (by first | exact Or.inl rfl | exact Or.inr (tagO (by assumption) (by rfl) (by rfl)) | exact Or.inr (tagO (AdrIs.ox (by assumption)) (by rfl) (by rfl)) | exact Or.inr (tagO (PatIs.ox (by assumption)) (by rfl) (by rfl)) | exact Or.inr (tagO (Or0.ox (by assumption)) (by rfl) (by rfl))) (by first | exact Or.inl (by decide) | exact Or.inr ⟨_, rfl, by assumption⟩) rfl (B_llSize hT5) ?_
    rw [show ((lsOf la5 (idsOfL (t ++ mkL G.2.2.2.2.1 (smpL kk9 x)))).length : Int) = ((t.length + kk9 : Nat) : Int) by rw [hlt]]
    first | (refine CW.putr rfl rfl (by assumption) rfl (by decide) (fun S6 hP6 h56 => ?_)) | (refine CW.puti rfl (by assumption) rfl (by decide) (by first | exact Or.inl ⟨rfl, by first | omega | decide | (constructor <;> first | omega | decide)⟩ | exact Or.inr (Or.inl ⟨rfl, by first | omega | decide | (constructor <;> first | omega | decide)⟩) | exact Or.inr (Or.inr (Or.inl ⟨rfl, by first | omega | decide | (constructor <;> first | omega | decide)⟩)) | exact Or.inr (Or.inr (Or.inr ⟨rfl, by first | omega | decide | (constructor <;> first | omega | decide)⟩))) (fun S6 hP6 h56 => ?_))
    have hx6 := hx5.pu hP6 trivial
    (repeat (first | (refine BW.pl rfl rfl ?_) | (refine CW.geti rfl rfl (by assumption) rfl rfl (by assumption) (fun _ => ?_)) | (refine CW.getr rfl rfl (by assumption) rfl rfl (by assumption) ?_)))
    have hL6 : LB S6 K la5 (idsOfL (t ++ mkL G.2.2.2.2.1 (smpL kk9 x))) (t.length + kk9) (addN G kk9) _ := hL5.1.puP hP6 h56 rfl
    have hRw6 := hL5.2.pu1 hP6 hx5
    have eA : smpA (t, p, G) (smpL kk9 x) = (t ++ mkL G.2.2.2.2.1 (smpL kk9 x), t.length + kk9, addN G kk9) := by
      obtain ⟨g1, g2, g3, g4, g5, g6⟩ := G
      unfold smpA addN
      dsimp only
      rw [smpL_len]
    refine BW.irx rfl (Or.inl ⟨rfl, by constructor <;> omega⟩) (PuX.ok (la := la5) (B := B + 4000) (w := (tp, sc, smpA (t, p, G) (smpL kk9 x), keepD ds (cl + 1, t, p, G.2.2.2.1), cl + 1, re)) ⟨cap4, hc4', ?_, hD5.pu hP6, hR5.pu hP6 (by decide), h116.pu hP6 (Or.inl (by decide)), h126.pu hP6 (Or.inl (by decide))⟩ (Nat.le_refl _) (by omega) ?_)
    · show LO S6 K la5 (smpA (t, p, G) (smpL kk9 x)) _
      rw [eA]
      exact ⟨hL6.le (by omega) (by omega), hRw6⟩
    · show (.inr _ : Nat ⊕ Int) = .inr _
      congr 1
end SM
