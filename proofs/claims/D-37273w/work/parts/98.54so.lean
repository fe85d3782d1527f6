-- C
set_option maxRecDepth 100000
/-! LINEORDERS: a stream: doOne -/
/-- between two lines, or at one -/
def StZ (S : BS) (K : Nat → Nat) (la : Int → Nat) (q oq ar pq dq : Nat) (t : List SLine) (n0 : Int) (Sg : SS) (cap B : Nat) : Prop := if sOverS Sg = true then StS S K la q oq ar pq dq t Sg (Sg.1.2.2.2.1 ++ Sg.1.2.2.2.2) cap B ∧ WSP n0 Sg.1 Sg.2.1 ∧ Sg.1.2.2.1 = [] else StW S K la q oq ar pq dq t Sg cap B ∧ WS n0 Sg.1 Sg.2.1 ∧ Sg.1.2.2.1.length ≤ 40 * Sg.2.2.1
/-- what an order answers: the next place -/
def SoX (S : BS) (K : Nat → Nat) (F : Nat → Prop) (q oq ar pq dq : Nat) (la : Int → Nat) (t : List SLine) (os : List SOrd) (OA : Nat → Nat → Nat) (xs : List (Option Nat)) (qi : Nat → Nat) (ys : Nat → List (Option Nat)) (n0 : Int) (Sg0 : SS) (cap B Bm : Nat) (R : Nat ⊕ (Nat × SS)) (rg : GO) (S' : BS) : Prop := match R with
  | .inl w => StR S K F q pq dq la Sg0.2.1.2.2.2.2.1 Sg0.2.1.2.1 Bm w rg S'
  | .inr (j, Sg1) => rg = .inl (vI j) ∧ ∃ la1 cap1, (cap ≤ cap1 ∧ cap1 ≤ 24400) ∧ StZ S' K la1 q oq ar pq dq t n0 Sg1 cap1 (B + 240 * (Sg1.2.2.1 - Sg0.2.2.1) + 30 * (Sg1.1.2.2.2.1.length - Sg0.1.2.2.2.1.length) + 750 * (Sg0.1.2.2.2.2.length - Sg1.1.2.2.2.2.length) + (if sOverS Sg1 = true then 800 else 0)) ∧ OsI S' F t.length os Sg1.2.2.2.2.2 OA xs qi ys oq ∧ XS K F (WSt q pq dq) S S' ∧ LaE la la1 Sg0.2.1.2.2.2.2.1 ∧ Sg0.2.1.2.2.2.2.1 ≤ Sg1.2.1.2.2.2.2.1 ∧ (∃ ex, Sg1.2.1.2.1 = Sg0.2.1.2.1 ++ ex) ∧ Sg1.2.2.1 ≤ 400 ∧ Sg0.2.2.1 ≤ Sg1.2.2.1 ∧ Sg0.1.2.2.2.1.length ≤ Sg1.1.2.2.2.1.length ∧ Sg1.1.2.2.2.2.length ≤ Sg0.1.2.2.2.2.length ∧ Sg1.2.2.2.1 + Sg1.1.2.2.2.2.length ≤ Sg0.2.2.2.1 + Sg0.1.2.2.2.2.length
section SO
variable {d n m q oq ar pq dq a b f y cap cap' cap1 c i k B B' B2 st tu p Bm tm : Nat} {S S' S1 S2 : BS} {K : Nat → Nat} {V F : Nat → Prop} {o : SOrd} {la la1 : Int → Nat} {t pu re pu1 re1 : List SLine} {x z x1 : SLine} {g g1 ov rp run bb : Bool} {du rows du1 du' : List (List Int)} {W W1 : WG} {G G1 : BG} {ru : Nat → Nat → RG} {r : Option Nat} {v nn n0 : Int} {h9 o9 : List (List Int)} {fi : Nat → List (List Int)} {mk : Nat → Option Int} {od : SOrd0} {w : Nat} {rg : GO} {xs : List (Option Nat)} {os : List SOrd} {OA : Nat → Nat → Nat} {qi : Nat → Nat} {ys : Nat → List (Option Nat)} {Sg Sg0 Sg1 : SS} {R : Nat ⊕ SS} {l l1 l2 : List Int} {Mm : Int → Option Nat} {j : Nat}
theorem stPutWork_out (h : stPutWork (x, g, du, pu, re) (h9, o9, fi, mk, nn, rp) = .inr (W1, G1)) : ∃ pu1 n1, W1 = (x, g, [], pu1, re) ∧ G1 = (h9, o9, fi, mk, n1, rp) ∧ pu.length ≤ pu1.length := by
  have e : stPutWork (x, g, du, pu, re) (h9, o9, fi, mk, nn, rp) = if g = false ∧ pu.length = 40 then .inl 4 else if 40 < (if g = true then pu else pu ++ [x]).length + du.length then .inl 4 else .inr ((x, g, [], (if g = true then pu else pu ++ [x]) ++ mkL nn du, re), (h9, o9, fi, mk, nn + (du.length : Nat), rp)) := by
    unfold stPutWork stPuts
    dsimp only
    split
    · rfl
    · by_cases hc : 40 < (if g = true then pu else pu ++ [x]).length + du.length
      · (rw [if_pos hc]; try rfl)
      · (rw [if_neg hc]; try rfl)
  rw [e] at h
  by_cases z : g = false ∧ pu.length = 40
  · rw [if_pos z] at h; cases h
  · rw [if_neg z] at h
    by_cases hc : 40 < (if g = true then pu else pu ++ [x]).length + du.length
    · rw [if_pos hc] at h; cases h
    · rw [if_neg hc] at h
      cases h
      refine ⟨_, _, rfl, rfl, ?_⟩
      rw [List.length_append]
      cases g with
      | true => rw [if_pos rfl]; omega
      | false => rw [if_neg (by decide), List.length_append]; omega
theorem L_goToNext (h : StW S K la q oq ar pq dq t ((x, g, du, pu, re), (h9, o9, fi, mk, nn, rp), st, tu, ov, ru) cap B) (hk : StK K F q ar pq dq) (hw : WS n0 (x, g, du, pu, re) (h9, o9, fi, mk, nn, rp)) (h40 : t.length ≤ 40) (htu : tu < 100000) (hcp : cap ≤ 24400) (hn : n0 < 1900000) (hBm : B + 149500 ≤ Bm ∧ Bm ≤ 20000000) : BM (d + 7) gk_X13_goToNext [aR q] S (fun rg S' => match stPutWork (x, g, du, pu, re) (h9, o9, fi, mk, nn, rp) with
    | .inl w => StR S K F q pq dq la nn o9 Bm w rg S'
    | .inr (W1, G1) => rg = .inl none ∧ ∃ la1, XA K q pq dq S S' ∧ LaE la la1 nn ∧ nn ≤ G1.2.2.2.2.1 ∧ (∃ ex, G1.2.1 = o9 ++ ex) ∧ (re = [] → StS S' K la1 q oq ar pq dq t (W1, G1, st, tu, true, ru) (W1.2.2.2.1 ++ W1.2.2.2.2) cap (B + 16 + 30 * (W1.2.2.2.1.length - pu.length))) ∧ ∀ z re', re = z :: re' → StW S' K la1 q oq ar pq dq t ((z, false, [], W1.2.2.2.1, re'), (G1.1, G1.2.1, G1.2.2.1, G1.2.2.2.1, G1.2.2.2.2.1, false), st, tu + 1, ov, ru) cap (B + 16 + 30 * (W1.2.2.2.1.length - pu.length))) := by
  have hq := h.1.1.1
  refine BM.of rfl rfl rfl ?_
  (repeat (refine BW.pl rfl rfl ?_))
  refine CW.x1 rfl rfl (by first | exact Or.inl rfl | exact Or.inr (tagO (by assumption) (by rfl) (by rfl)) | exact Or.inr (tagO (AdrIs.ox (by assumption)) (by rfl) (by rfl)) | exact Or.inr (tagO (PatIs.ox (by assumption)) (by rfl) (by rfl)) | exact Or.inr (tagO (Or0.ox (by assumption)) (by rfl) (by rfl))) (by first | exact Or.inl (by decide) | exact Or.inr ⟨_, rfl, by assumption⟩) rfl rfl (L_putWork (d := d) (Bm := Bm) h hk hw hcp hn hBm) ?_ ?_
  · intro r S2 h2
    revert h2
    cases hs : stPutWork (x, g, du, pu, re) (h9, o9, fi, mk, nn, rp) with
    | inl w =>
      rintro ⟨_, _, _, _, _, _, _, _, _, _, q9, e9, _⟩
      cases e9
    | inr z =>
      obtain ⟨W1, G1⟩ := z
      obtain ⟨pu1, n1, rfl, rfl, hpl⟩ := stPutWork_out hs
      rintro ⟨e2, la1, h2, hX2, hE2, hn2, ho2⟩
      cases e2
      have h2 : StS S2 K la1 q oq ar pq dq t ((x, g, [], pu1, re), (h9, o9, fi, mk, n1, rp), st, tu, ov, ru) (pu1 ++ re) cap (B + 16 + 30 * (pu1.length - pu.length)) := h2
      obtain ⟨hq2, -, h802, -, -, -, har2⟩ := id h2.1
      have hal : (lsOf la1 (idsOfL t)).length = t.length := by rw [lsOf_len, ids_len]
      have hN : StN S2 q t re st tu ov := h2.2.2.2.2.1
      have h832 : Fi S2 83 q ((t.length - re.length : Nat) : Int) := hN.1.1
      have hrl := hN.2.2
      (repeat (first | (refine BW.pl rfl rfl ?_) | (refine CW.geti rfl rfl (by assumption) rfl rfl (by assumption) (fun _ => ?_)) | (refine CW.getr rfl rfl (by assumption) rfl rfl (by assumption) ?_)))
      refine CW.alenR rfl har2 (fun _ => ?_)
      rw [hal]
      cases re with
      | nil =>
        rw [show t.length - ([] : List SLine).length = t.length from rfl]
        refine BW.br rfl rfl (by first | omega | decide | (constructor <;> first | omega | decide)) (fun w => by first | (exfalso; omega) | exact absurd w (by decide)) (fun w => ?_)
        (repeat (refine BW.pl rfl rfl ?_))
        first | (refine CW.putr rfl rfl (by assumption) rfl (by decide) (fun S3 hP3 h883 => ?_)) | (refine CW.puti rfl (by assumption) rfl (by decide) (by first | exact Or.inl ⟨rfl, by first | omega | decide | (constructor <;> first | omega | decide)⟩ | exact Or.inr (Or.inl ⟨rfl, by first | omega | decide | (constructor <;> first | omega | decide)⟩) | exact Or.inr (Or.inr (Or.inl ⟨rfl, by first | omega | decide | (constructor <;> first | omega | decide)⟩)) | exact Or.inr (Or.inr (Or.inr ⟨rfl, by first | omega | decide | (constructor <;> first | omega | decide)⟩))) (fun S3 hP3 h883 => ?_))
        have g3 := h2.puq (ru' := ru) (x' := x) (g' := g) hk hP3 (by decide) (hN.ovr hP3 h883)
        (repeat (refine BW.pl rfl rfl ?_))
        exact BW.ret rfl rfl ⟨rfl, la1, hX2.st (Or.inl rfl) hq2 (Or.inl rfl) hP3.fr, hE2, hn2, ho2, fun _ => g3, fun z re' e => by cases e⟩
      | cons z re =>
        have hrl : re.length + 1 ≤ t.length := hrl
        have hzl : (z :: re).length = re.length + 1 := rfl
        refine BW.br rfl rfl (by first | omega | decide | (constructor <;> first | omega | decide)) (fun w => ?_) (fun w => by first | (exfalso; omega) | exact absurd w (by decide))
        (repeat (refine BW.pl rfl rfl ?_))
        refine CW.c1 rfl rfl (by first | exact Or.inl rfl | exact Or.inr (tagO (by assumption) (by rfl) (by rfl)) | exact Or.inr (tagO (AdrIs.ox (by assumption)) (by rfl) (by rfl)) | exact Or.inr (tagO (PatIs.ox (by assumption)) (by rfl) (by rfl)) | exact Or.inr (tagO (Or0.ox (by assumption)) (by rfl) (by rfl))) (by first | exact Or.inl (by decide) | exact Or.inr ⟨_, rfl, by assumption⟩) rfl (L_takeNext (d := d + 5) h2 hk h40 htu) ?_
        rintro r S3 ⟨rfl, h3, hX3⟩
        exact BW.ret rfl rfl ⟨rfl, la1, hX2.tr hX3, hE2, hn2, ho2, fun e => (by cases e), fun z' re' e => by cases e; exact h3⟩
  · intro E q9 S2 h2
    revert h2
    cases hs : stPutWork (x, g, du, pu, re) (h9, o9, fi, mk, nn, rp) with
    | inl w => exact fun h2 => h2
    | inr z =>
      obtain ⟨W1, G1⟩ := z
      rintro ⟨e2, _⟩
      cases e2
/-- nothing is over: what holds of a line's work -/
theorem SoX.at (hov : sOverS Sg0 = false) (h : SiX S K F q oq ar pq dq la t os OA xs qi ys n0 Sg0 cap B Bm (.inr Sg1) (.inl none) S') (hre : Sg1.1.2.2.2.2.length ≤ Sg0.1.2.2.2.2.length) (hBm : B + 240 * (Sg1.2.2.1 - Sg0.2.2.1) + 30 * (Sg1.1.2.2.2.1.length - Sg0.1.2.2.2.1.length) + 750 * (Sg0.1.2.2.2.2.length - Sg1.1.2.2.2.2.length) + 146400 ≤ 20000000) : SoX S K F q oq ar pq dq la t os OA xs qi ys n0 Sg0 cap B Bm (.inr (j, Sg1)) (.inl (vI (j : Int))) S' := by
  obtain ⟨-, la1, cap1, hc, h1, h2, h3, h4, h5, h6, h7, h8, h9', h10, h11, h12, h13⟩ := h
  have hov1 : sOverS Sg1 = false := h13.trans hov
  obtain ⟨W1, G1, st1, tu1, ov1, ru1⟩ := Sg1
  have hov2 : ¬ sOverS (W1, G1, st1, tu1, ov1, ru1) = true := by rw [hov1]; decide
  refine ⟨rfl, la1, cap1, hc, ?_, h2, h3, h4, h5, h6, h9', h10, h11, hre, ?_⟩
  · unfold StZ
    rw [if_neg hov2, if_neg hov2]
    exact ⟨h1.le (by omega) (by omega), h7, h8⟩
  · have h12 : tu1 = Sg0.2.2.2.1 := h12
    have hre : W1.2.2.2.2.length ≤ Sg0.1.2.2.2.2.length := hre
    show tu1 + W1.2.2.2.2.length ≤ _
    omega
theorem gsw5 {x : Int} (h1 : x ≠ 78) (h2 : x ≠ 84) (h3 : x ≠ 98) (h4 : x ≠ 113) : gswt (gsws.getD 5 (0, 0, [])) x = 63 := by
  show ((List.find? (fun q => q.1 == x) [((78 : Int), 57), (84, 28), (98, 21), (113, 49)]).map (fun q => q.2)).getD 63 = 63
  simp only [List.find?]
  rw [beq_false_of_ne (Ne.symm h1), beq_false_of_ne (Ne.symm h2), beq_false_of_ne (Ne.symm h3), beq_false_of_ne (Ne.symm h4)]
  rfl
/-- a step ahead -/
theorem SiX.pre1 {G9 : BG} {ru1 ru2 : Nat → Nat → RG} (hX : XS K F (WSt q pq dq) S S2) (h : SiX S2 K F q oq ar pq dq la t os OA xs qi ys n0 ((x, g, du, pu, re), G9, st + 1, tu, ov, ru1) cap B Bm R rg S') (hBm : B + 240 * (400 - st) + 1200 + 147000 ≤ 20000000) : SiX S K F q oq ar pq dq la t os OA xs qi ys n0 ((x, g, du, pu, re), G9, st, tu, ov, ru2) cap B Bm R rg S' := by
  cases R with
  | inl w => exact StR.pre hX LaE.rf (Int.le_refl _) ⟨[], by simp⟩ h
  | inr Sg1 =>
    obtain ⟨e, la1, cap1, hc, h1, h2, h3, h4, h5, h6, h7, h8, h9', h10, h11, h12, h13⟩ := h
    obtain ⟨⟨x1, g1, du1, pu1, re1⟩, G1, st1, tu1, ov1, ru3⟩ := Sg1
    subst e
    have hp : pu1.length ≤ 40 := h7.2.2.2.2.2.2.2.2.1
    have h9' : st1 ≤ 400 := h9'
    have h10 : st + 1 ≤ st1 := h10
    have hc2 : cap1 ≤ 24400 := hc.2
    exact SiX.of h1 hc (by show B + 240 * (st1 - (st + 1)) + 30 * (pu1.length - pu.length) ≤ B + 240 * (st1 - st) + 30 * (pu1.length - pu.length); omega) (by show B + 240 * (st1 - st) + 30 * (pu1.length - pu.length) + 6 * cap1 ≤ 20000000; omega) h2 (hX.tr h3) h4 h5 h6 h7 h8 h9' (by show st ≤ st1; omega) h11 h12 h13
/-- a group -/
theorem L_stPlG (hW : StW S K la q oq ar pq dq t ((x, false, du, pu, re), (h9, o9, fi, mk, nn, rp), st, tu, ov, ru) cap B) (hk : StK K F q ar pq dq) (hw : WS n0 (x, false, du, pu, re) (h9, o9, fi, mk, nn, rp)) (h40 : t.length ≤ 40) (hI : OsI S F t.length os ru OA xs qi ys oq) (hS : OsS F oq os OA xs qi ys) (hkl : k < os.length) (eo : os.getD k noOrd = o) (hg : isGc (oAct o.1) = true) (hpk : oAct o.1 = 103 ∨ oAct o.1 = 71 → PatK (oPat o.1)) (hin : ∀ od ∈ o.2, OdK od ∧ OdP od) (hio : InnOk o.2) (hcap : cap ≤ 24400) (hdu : du.length ≤ 40 * st) (hst : st ≤ 400) (htu : tu < 100000) (hn : n0 < 1900000) (hBm : B + 240 * (400 - st) + 1200 + 151500 ≤ Bm ∧ Bm ≤ 20000000) : BM (d + 187) gk_X13_doPlain [aR q, aR (OA k 0)] S (SiX S K F q oq ar pq dq la t os OA xs qi ys n0 ((x, false, du, pu, re), (h9, o9, fi, mk, nn, rp), st, tu, ov, ru) cap B Bm (stEac t.length k o ((x, false, du, pu, re), (h9, o9, fi, mk, nn, rp), st, tu, ov, ru))) := by
  have hv0 : kyG os k 0 := ⟨hkl, Nat.zero_le _⟩
  obtain ⟨hO, hR⟩ := hI.2.2 k 0 hv0
  rw [ord9_0, eo] at hO hR
  obtain ⟨hm, h48, h49⟩ := hO.nm
  have hact : oAct o.1 = 123 ∨ oAct o.1 = 103 ∨ oAct o.1 = 71 := of_decide_eq_true hg
  have fin : BW (d + 186) gm_X13_doPlain 210 [some (aR q), some (aR (OA k 0)), none] [] S (SiX S K F q oq ar pq dq la t os OA xs qi ys n0 ((x, false, du, pu, re), (h9, o9, fi, mk, nn, rp), st, tu, ov, ru) cap B Bm (stEac t.length k o ((x, false, du, pu, re), (h9, o9, fi, mk, nn, rp), st, tu, ov, ru))) := by
    have hq0 := hW.1.1.1
    (repeat (refine BW.pl rfl rfl ?_))
    refine CW.x2 rfl rfl (by first | exact Or.inl rfl | exact Or.inr (tagO (by assumption) (by rfl) (by rfl)) | exact Or.inr (tagO (AdrIs.ox (by assumption)) (by rfl) (by rfl)) | exact Or.inr (tagO (PatIs.ox (by assumption)) (by rfl) (by rfl)) | exact Or.inr (tagO (Or0.ox (by assumption)) (by rfl) (by rfl))) (by first | exact Or.inl (by decide) | exact Or.inr ⟨_, rfl, by assumption⟩) rfl rfl (L_stEach (d := d) (k := k) (Bm := Bm) hW hk hw h40 hI hS hkl eo hg hpk hin hio hcap hdu hst htu hn hBm) ?_ ?_
    · intro r S2 h2
      revert h2
      cases stEac t.length k o ((x, false, du, pu, re), (h9, o9, fi, mk, nn, rp), st, tu, ov, ru) with
      | inl w =>
        rintro ⟨_, _, _, _, _, _, _, _, _, _, q9, e9, _⟩
        cases e9
      | inr Sg1 =>
        intro h2
        obtain ⟨e2, _⟩ := id h2
        cases e2
        (repeat (refine BW.pl rfl rfl ?_))
        exact BW.ret rfl rfl h2
    · intro E q9 S2 h2
      revert h2
      cases stEac t.length k o ((x, false, du, pu, re), (h9, o9, fi, mk, nn, rp), st, tu, ov, ru) with
      | inl w => exact fun h2 => h2
      | inr Sg1 =>
        rintro ⟨e2, _⟩
        cases e2
  refine BM.of rfl rfl rfl ?_
  rcases hact with z | z | z
  · rw [z] at h48
    (iterate 2 (first | (refine BW.pl rfl rfl ?_) | (refine CW.geti rfl rfl (by assumption) rfl rfl (by assumption) (fun _ => ?_)) | (refine CW.getr rfl rfl (by assumption) rfl rfl (by assumption) ?_)))
    exact BW.sw (i' := 210) rfl rfl (by constructor <;> omega) rfl fin
  · rw [z] at h48
    (iterate 2 (first | (refine BW.pl rfl rfl ?_) | (refine CW.geti rfl rfl (by assumption) rfl rfl (by assumption) (fun _ => ?_)) | (refine CW.getr rfl rfl (by assumption) rfl rfl (by assumption) ?_)))
    exact BW.sw (i' := 210) rfl rfl (by constructor <;> omega) rfl fin
  · rw [z] at h48
    (iterate 2 (first | (refine BW.pl rfl rfl ?_) | (refine CW.geti rfl rfl (by assumption) rfl rfl (by assumption) (fun _ => ?_)) | (refine CW.getr rfl rfl (by assumption) rfl rfl (by assumption) ?_)))
    exact BW.sw (i' := 210) rfl rfl (by constructor <;> omega) rfl fin
theorem L_stOne (hW : StW S K la q oq ar pq dq t ((x, false, du, pu, re), (h9, o9, fi, mk, nn, rp), st, tu, false, ru) cap B) (hk : StK K F q ar pq dq) (hw : WS n0 (x, false, du, pu, re) (h9, o9, fi, mk, nn, rp)) (h40 : t.length ≤ 40) (hI : OsI S F t.length os ru OA xs qi ys oq) (hS : OsS F oq os OA xs qi ys) (hkl : k < os.length) (eo : os.getD k noOrd = o) (hog : OgK o) (hok : OrdOk o) (hol : os.length ≤ 25) (hT : Ob S tm (oTm Mm)) (hM : ∀ nr, 0 ≤ nr → nr < 100 → Mm nr = (sLab os nr).map (fun k => k + 128)) (ktm : KoM K tm) (wtm : ¬ WSt q pq dq tm) (hcap : cap ≤ 24400) (hdu : du.length ≤ 40 * st) (hst : st ≤ 400) (htu : tu + re.length ≤ 1000) (hn : n0 < 1900000) (hBm : B + 240 * (400 - st) + 1200 + 153000 + 750 * re.length ≤ Bm ∧ Bm ≤ 20000000) (hvk : v = (k : Int)) : BM (d + 188) gk_X13_doOne [aR q, aI v, aR tm] S (SoX S K F q oq ar pq dq la t os OA xs qi ys n0 ((x, false, du, pu, re), (h9, o9, fi, mk, nn, rp), st, tu, false, ru) cap B Bm (stOne t.length os k o ((x, false, du, pu, re), (h9, o9, fi, mk, nn, rp), st, tu, false, ru))) := by
  subst hvk
  have hv0 : kyG os k 0 := ⟨hkl, Nat.zero_le _⟩
  have F0 : F (OA k 0) := hS.2.2.2.1 k 0 hv0
  obtain ⟨cx, hxs⟩ := hI.1
  have hgx := hS.2.1.2 k hkl
  have hxl := hS.2.1.1
  obtain ⟨hO, hR⟩ := hI.2.2 k 0 hv0
  rw [ord9_0, eo] at hO hR
  have hpu40 : pu.length ≤ 40 := hw.pun.2.2.2.1
  have hre40 : re.length ≤ 40 := hw.pun.2.2.2.2
  obtain ⟨⟨had1, had2⟩, hnr, hac, hcase⟩ := hog
  obtain ⟨l, l2, hpo, h48o⟩ := hok
  obtain ⟨l1, wq, hpw, ge, hl1, hgr⟩ := pOrder_out hpo h48o
  have h12 : oFst o.1 = none → oSnd o.1 = none := by rw [ge.2.1, ge.2.2.1]; exact (pWhere_ok hpw).1
  obtain ⟨hq, h79, h80, h81, h82, h90, har⟩ := id hW.1.1
  have h0 : SiX S K F q oq ar pq dq la t os OA xs qi ys n0 ((x, false, du, pu, re), (h9, o9, fi, mk, nn, rp), st, tu, false, ru) cap B Bm (.inr ((x, false, du, pu, re), (h9, o9, fi, mk, nn, rp), st, tu, false, ru)) (.inl none) S := SiX.of (B2 := B) hW ⟨Nat.le_refl _, hcap⟩ (by omega) (by show B + 240 * (st - st) + 30 * (pu.length - pu.length) + 6 * cap ≤ 20000000; omega) hI XS.rf LaE.rf (Int.le_refl _) ⟨[], by simp⟩ hw hdu hst (Nat.le_refl _) (Nat.le_refl _) rfl rfl
  refine BM.of rfl rfl rfl ?_
  (repeat (first | (refine BW.pl rfl rfl ?_) | (refine CW.geti rfl rfl (by assumption) rfl rfl (by assumption) (fun _ => ?_)) | (refine CW.getr rfl rfl (by assumption) rfl rfl (by assumption) ?_)))
  refine CW.e2 rfl rfl (by first | exact Or.inl rfl | exact Or.inr (tagO (by assumption) (by rfl) (by rfl)) | exact Or.inr (tagO (AdrIs.ox (by assumption)) (by rfl) (by rfl)) | exact Or.inr (tagO (PatIs.ox (by assumption)) (by rfl) (by rfl)) | exact Or.inr (tagO (Or0.ox (by assumption)) (by rfl) (by rfl))) (by first | exact Or.inl (by decide) | exact Or.inr ⟨_, rfl, by assumption⟩) rfl (C_alGet (d := d + 184) (k := k) hxs (by omega) hgx rfl) ?_
  refine CW.castS rfl hO.2.1 rfl rfl rfl ?_
  (repeat (refine BW.pl rfl rfl ?_))
  refine CW.x2 rfl rfl (by first | exact Or.inl rfl | exact Or.inr (tagO (by assumption) (by rfl) (by rfl)) | exact Or.inr (tagO (AdrIs.ox (by assumption)) (by rfl) (by rfl)) | exact Or.inr (tagO (PatIs.ox (by assumption)) (by rfl) (by rfl)) | exact Or.inr (tagO (Or0.ox (by assumption)) (by rfl) (by rfl))) (by first | exact Or.inl (by decide) | exact Or.inr ⟨_, rfl, by assumption⟩) rfl rfl (L_comesTo (d := d + 2) (k := k) (i := 0) (Bm := Bm) hW hk hw h40 hO hac had1 had2 h12 hR (by omega) hst (by omega) hBm.2) ?_ ?_
  rotate_left
  · intro E q9 S3 h3
    unfold CoX at h3
    rw [stOne_eq]
    revert h3
    cases hc : stCome t.length k 0 o.1 ((x, false, du, pu, re), (h9, o9, fi, mk, nn, rp), st, tu, false, ru) with
    | inl w => exact fun h3 => h3
    | inr z =>
      obtain ⟨bb, Sg3⟩ := z
      rintro ⟨e3, _⟩
      cases e3
  intro r S3 h3
  unfold CoX at h3
  rw [stOne_eq]
  revert h3
  cases hc : stCome t.length k 0 o.1 ((x, false, du, pu, re), (h9, o9, fi, mk, nn, rp), st, tu, false, ru) with
  | inl w =>
    rintro ⟨_, _, _, _, _, _, _, _, _, _, q9, e9, _⟩
    cases e9
  | inr z =>
    obtain ⟨bb, Sg3⟩ := z
    obtain ⟨c400, hbar, ebb, eSg⟩ := stCome_out hc
    rintro ⟨e3, hW3, hX3, hO3, hR3⟩
    cases e3
    have hh2 := stHold_2 (L := t.length) (W := (x, false, du, pu, re)) (B := (h9, o9, fi, mk, nn, rp)) (tu := tu) (od := o.1) (R := ru k 0)
    rw [← ebb] at hh2
    generalize hRR : (stHold t.length (x, false, du, pu, re) (h9, o9, fi, mk, nn, rp) tu o.1 (ru k 0)).2 = RR at eSg hh2
    subst eSg
    have hR3 : RnI S3 t.length (OA k 0) o.1 (rup ru k 0 RR k 0) := hR3
    have eru : rup ru k 0 RR k 0 = RR := by unfold rup; rw [if_pos ⟨rfl, rfl⟩]
    rw [eru] at hR3
    have eo9 : ord9 os k 0 = o.1 := by rw [ord9_0, eo]
    have hI3 : OsI S3 F t.length os (rup ru k 0 RR) OA xs qi ys oq := hI.one hS hk hX3 hv0 (by rw [eo9]; exact hO3) (by rw [eo9]; exact hR3)
    have hXF3 : XS K F (WSt q pq dq) S S3 := hX3.mono (fun j hj => by rw [hj]; exact F0) (fun j hj => Or.inl hj)
    have hst1 : st + 1 ≤ 400 := by omega
    have h33 : SiX S K F q oq ar pq dq la t os OA xs qi ys n0 ((x, false, du, pu, re), (h9, o9, fi, mk, nn, rp), st, tu, false, ru) cap B Bm (.inr ((x, false, du, pu, re), (h9, o9, fi, mk, nn, rp), st + 1, tu, false, rup ru k 0 RR)) (.inl none) S3 := SiX.of (B2 := B) hW3 ⟨Nat.le_refl _, hcap⟩ (by show _ ≤ B + 240 * (st + 1 - st) + 30 * (pu.length - pu.length); omega) (by show B + 240 * (st + 1 - st) + 30 * (pu.length - pu.length) + 6 * cap ≤ 20000000; omega) hI3 hXF3 LaE.rf (Int.le_refl _) ⟨[], by simp⟩ hw (by show du.length ≤ 40 * (st + 1); omega) hst1 (Nat.le_succ _) (Nat.le_refl _) rfl rfl
    have next : ∀ {Sg1 : SS} {S4 : BS} (j : Nat), SiX S K F q oq ar pq dq la t os OA xs qi ys n0 ((x, false, du, pu, re), (h9, o9, fi, mk, nn, rp), st, tu, false, ru) cap B Bm (.inr Sg1) (.inl none) S4 → Sg1.1.2.2.2.2.length ≤ re.length → SoX S K F q oq ar pq dq la t os OA xs qi ys n0 ((x, false, du, pu, re), (h9, o9, fi, mk, nn, rp), st, tu, false, ru) cap B Bm (.inr (j, Sg1)) (.inl (vI (j : Int))) S4 := fun {Sg1 S4} j h hR => by
      obtain ⟨-, _, _, _, _, _, _, _, _, _, r2, _, r3, _⟩ := id h
      have r2 : Sg1.1.2.2.2.1.length ≤ 40 := r2.2.2.2.2.2.2.2.2.1
      refine SoX.at rfl h hR ?_
      show B + 240 * (Sg1.2.2.1 - st) + 30 * (Sg1.1.2.2.2.1.length - pu.length) + 750 * (re.length - Sg1.1.2.2.2.2.length) + 146400 ≤ 20000000
      omega
    have e1 : ((k + 1 : Nat) : Int) = (k : Int) + 1 := rfl
    have n33 := next (k + 1) h33 (Nat.le_refl _)
    have n33 : SoX S K F q oq ar pq dq la t os OA xs qi ys n0 ((x, false, du, pu, re), (h9, o9, fi, mk, nn, rp), st, tu, false, ru) cap B Bm (.inr (k + 1, ((x, false, du, pu, re), (h9, o9, fi, mk, nn, rp), st + 1, tu, false, rup ru k 0 RR))) (.inl (vI ((k : Int) + 1))) S3 := n33
    cases bb with
    | false =>
      refine BW.br rfl rfl (by first | omega | decide | (constructor <;> first | omega | decide)) (fun w3 => ?_) (fun w3 => by first | (exfalso; omega) | exact absurd w3 (by decide))
      (repeat (refine BW.pl rfl rfl ?_))
      exact BW.irx rfl (Or.inl ⟨rfl, by constructor <;> omega⟩) n33
    | true =>
    dsimp only
    obtain ⟨hm3, h483, h493⟩ := hO3.nm
    refine BW.br rfl rfl (by first | omega | decide | (constructor <;> first | omega | decide)) (fun w3 => by first | (exfalso; omega) | exact absurd w3 (by decide)) (fun w3 => ?_)
    (repeat (first | (refine BW.pl rfl rfl ?_) | (refine CW.geti rfl rfl (by assumption) rfl rfl (by assumption) (fun _ => ?_)) | (refine CW.getr rfl rfl (by assumption) rfl rfl (by assumption) ?_)))
    by_cases z58 : oAct o.1 = 58
    · rw [if_pos z58]
      refine BW.br rfl rfl (by first | omega | decide | (constructor <;> first | omega | decide)) (fun w4 => by first | (exfalso; omega) | exact absurd w4 (by decide)) (fun w4 => ?_)
      (repeat (refine BW.pl rfl rfl ?_))
      exact BW.irx rfl (Or.inl ⟨rfl, by constructor <;> omega⟩) n33
    rw [if_neg z58]
    refine BW.br rfl rfl (by first | omega | decide | (constructor <;> first | omega | decide)) (fun w4 => ?_) (fun w4 => by first | (exfalso; omega) | exact absurd w4 (by decide))
    obtain ⟨hq3, h793, h803, h813, h823, h903, har3⟩ := id hW3.1.1
    obtain ⟨cx3, hxs3⟩ := hI3.1
    obtain ⟨p3, hL3⟩ := hW3.1.2.1
    have hL3 : LB S3 K la (idsOfL t) p3 (h9, o9, fi, mk, nn, rp) (B + 6 * cap) := hL3
    have hx3 := hL3.obx
    have hT3 : Ob S3 tm (oTm Mm) := hXF3.ob hT ktm wtm (oNe rfl) rfl
    have hjm := sJump_jm (os := os) (o := o)
    have jlt : ∀ j, sJump os o.1 = .inr j → j ≤ 25 := fun j hs => by
      rw [hjm] at hs
      unfold jmR at hs
      split at hs
      · cases hs; exact hol
      · cases hl : sLab os (oNum o.1) with
        | none => rw [hl] at hs; cases hs
        | some k9 => rw [hl] at hs; have := sLab_lt hl; cases hs; omega
    by_cases zst : oAct o.1 = 98 ∨ oAct o.1 = 84 ∨ oAct o.1 = 113 ∨ oAct o.1 = 78
    rotate_left
    · -- what is no jump
      rw [if_neg zst]
      have dflt : BW (d + 187) gm_X13_doOne 63 [some (aR q), some (aI k), some (aR tm), some (aR (OA k 0)), none] [] S3 (SoX S K F q oq ar pq dq la t os OA xs qi ys n0 ((x, false, du, pu, re), (h9, o9, fi, mk, nn, rp), st, tu, false, ru) cap B Bm (if sIsG (oAct o.1) = true then nxP k (stEac t.length k o ((x, false, du, pu, re), (h9, o9, fi, mk, nn, rp), st + 1, tu, false, rup ru k 0 RR)) else nxP k (stDo t.length k 0 o.1 ((x, false, du, pu, re), (h9, o9, fi, mk, nn, rp), st + 1, tu, false, rup ru k 0 RR)))) := by
        by_cases zg : sIsG (oAct o.1) = true
        · rw [if_pos zg]
          obtain ⟨hok2, hpk, hio, hin⟩ : OdK o.1 ∧ (oAct o.1 = 103 ∨ oAct o.1 = 71 → PatK (oPat o.1)) ∧ InnOk o.2 ∧ ∀ od ∈ o.2, OdK od ∧ OdP od := by
            rcases hcase with ⟨_, z⟩ | ⟨z, _⟩ | ⟨z, _⟩
            · exact z
            · rw [zg] at z; cases z
            · rw [zg] at z; cases z
          (repeat (refine BW.pl rfl rfl ?_))
          refine CW.x2 rfl rfl (by first | exact Or.inl rfl | exact Or.inr (tagO (by assumption) (by rfl) (by rfl)) | exact Or.inr (tagO (AdrIs.ox (by assumption)) (by rfl) (by rfl)) | exact Or.inr (tagO (PatIs.ox (by assumption)) (by rfl) (by rfl)) | exact Or.inr (tagO (Or0.ox (by assumption)) (by rfl) (by rfl))) (by first | exact Or.inl (by decide) | exact Or.inr ⟨_, rfl, by assumption⟩) rfl rfl (L_stPlG (d := d) (k := k) (Bm := Bm) hW3 hk hw h40 hI3 hS hkl eo zg hpk hin hio hcap (by omega) hst1 (by omega) hn (by omega)) ?_ ?_
          · intro r S4 h4
            have h4 := SiX.pre1 (ru2 := ru) hXF3 h4 (by omega)
            revert h4
            cases hs : stEac t.length k o ((x, false, du, pu, re), (h9, o9, fi, mk, nn, rp), st + 1, tu, false, rup ru k 0 RR) with
            | inl w =>
              rintro ⟨_, _, _, _, _, _, _, _, _, _, q9, e9, _⟩
              cases e9
            | inr Sg4 =>
              intro h4
              obtain ⟨e4, _⟩ := id h4
              cases e4
              (repeat (refine BW.pl rfl rfl ?_))
              exact BW.irx rfl (Or.inl ⟨rfl, by constructor <;> omega⟩) (next (k + 1) h4 (stEac_rl hs).1)
          · intro E q9 S4 h4
            have h4 := SiX.pre1 (ru2 := ru) hXF3 h4 (by omega)
            revert h4
            cases hs : stEac t.length k o ((x, false, du, pu, re), (h9, o9, fi, mk, nn, rp), st + 1, tu, false, rup ru k 0 RR) with
            | inl w => exact fun h4 => h4
            | inr Sg4 =>
              rintro ⟨e4, _⟩
              cases e4
        · rw [if_neg zg]
          obtain ⟨hout, hodK, hodP⟩ : isOut (oAct o.1) = false ∧ OdK o.1 ∧ OdP o.1 := by
            rcases hcase with ⟨z, _⟩ | ⟨_, z⟩ | ⟨_, z1, z2, z3⟩
            · exact absurd z zg
            · have z9 : oAct o.1 = 58 ∨ oAct o.1 = 98 ∨ oAct o.1 = 84 ∨ oAct o.1 = 113 ∨ oAct o.1 = 78 := by simpa [isOut] using z
              rcases z9 with z | z
              · exact absurd z z58
              · exact absurd (by omega) zst
            · exact ⟨z1, z2, z3⟩
          have hpa : pAct false wq l1 = .inr (l2, o.1) := by
            rcases hgr with ⟨z, _⟩ | ⟨_, z⟩
            · rw [← ge.2.2.2] at z; exact absurd z zg
            · exact z
          have hhold : oFst o.1 ≠ none → oSnd o.1 ≠ none → (rup ru k 0 RR k 0).2.1 = true := fun z1 z2 => by rw [eru]; exact hh2 rfl z1 z2
          (repeat (refine BW.pl rfl rfl ?_))
          refine CW.x2 rfl rfl (by first | exact Or.inl rfl | exact Or.inr (tagO (by assumption) (by rfl) (by rfl)) | exact Or.inr (tagO (AdrIs.ox (by assumption)) (by rfl) (by rfl)) | exact Or.inr (tagO (PatIs.ox (by assumption)) (by rfl) (by rfl)) | exact Or.inr (tagO (Or0.ox (by assumption)) (by rfl) (by rfl))) (by first | exact Or.inl (by decide) | exact Or.inr ⟨_, rfl, by assumption⟩) rfl rfl (stDo_S (d := d + 3) (k := k) (i := 0) (Bm := Bm) hodK hodP hout hpa h48o hW3 hk hw h40 hI3 hS hv0 eo9 hhold h12 hbar hcap (by omega) (by omega) hn (by omega)) ?_ ?_
          · intro r S4 h4
            revert h4
            try dsimp only
            cases hs : stDo t.length k 0 o.1 ((x, false, du, pu, re), (h9, o9, fi, mk, nn, rp), st + 1, tu, false, rup ru k 0 RR) with
            | inl w =>
              rintro ⟨_, _, _, _, _, _, _, _, _, _, q9, e9, _⟩
              cases e9
            | inr Sg4 =>
              have hrl := (stDo_rl hs).1
              obtain ⟨⟨x4, g4, du4, pu4, re4⟩, ⟨e1', e2', e3', e4', n4, e6'⟩, st4, tu4, ov4, ru4⟩ := Sg4
              rintro ⟨e4, la4, cap4, ⟨hc4, hc5⟩, hW4, hI4, hX4, hE4, hn4, hex4, hw4, hdu4, hpu4, eq4⟩
              cases e4
              have eq4 : (st4, tu4, ov4, ru4) = (st + 1, tu, false, rup ru k 0 RR) := eq4
              obtain ⟨rfl, rfl, rfl, rfl⟩ : st4 = st + 1 ∧ tu4 = tu ∧ ov4 = false ∧ ru4 = rup ru k 0 RR := by
                injection eq4 with a1 a2
                injection a2 with a2 a3
                injection a3 with a3 a4
                exact ⟨a1, a2, a3, a4⟩
              have hpu4 : pu.length ≤ pu4.length := hpu4
              have hpu440 : pu4.length ≤ 40 := hw4.2.2.2.2.2.2.2.2.1
              (repeat (refine BW.pl rfl rfl ?_))
              refine BW.irx rfl (Or.inl ⟨rfl, by constructor <;> omega⟩) (next (k + 1) (SiX.of (B2 := B + 240 + 30 * (pu4.length - pu.length)) hW4 ⟨hc4, hc5⟩ (by show _ ≤ B + 240 * (st + 1 - st) + 30 * (pu4.length - pu.length); omega) (by show B + 240 * (st + 1 - st) + 30 * (pu4.length - pu.length) + 6 * cap4 ≤ 20000000; omega) hI4 (hXF3.tr hX4) hE4 hn4 hex4 hw4 hdu4 hst1 (Nat.le_succ _) hpu4 rfl rfl) hrl)
          · intro E q9 S4 h4
            revert h4
            try dsimp only
            cases stDo t.length k 0 o.1 ((x, false, du, pu, re), (h9, o9, fi, mk, nn, rp), st + 1, tu, false, rup ru k 0 RR) with
            | inl w => exact fun h4 => StR.pre hXF3 LaE.rf (Int.le_refl _) ⟨[], by simp⟩ h4
            | inr Sg4 =>
              rintro ⟨e4, _⟩
              cases e4
      have z4 : oAct o.1 ≠ 78 ∧ oAct o.1 ≠ 84 ∧ oAct o.1 ≠ 98 ∧ oAct o.1 ≠ 113 := ⟨fun z => zst (Or.inr (Or.inr (Or.inr z))), fun z => zst (Or.inr (Or.inl z)), fun z => zst (Or.inl z), fun z => zst (Or.inr (Or.inr (Or.inl z)))⟩
      (iterate 2 (first | (refine BW.pl rfl rfl ?_) | (refine CW.geti rfl rfl (by assumption) rfl rfl (by assumption) (fun _ => ?_)) | (refine CW.getr rfl rfl (by assumption) rfl rfl (by assumption) ?_)))
      exact BW.sw (i' := 63) rfl rfl (by constructor <;> omega) (gsw5 z4.1 z4.2.1 z4.2.2.1 z4.2.2.2) dflt
    rw [if_pos zst]
    unfold stSte
    have hxb : B + 6 * cap ≤ Bm := by omega
    by_cases z98 : oAct o.1 = 98
    · rw [if_pos z98]
      rw [z98] at h483
      (iterate 2 (first | (refine BW.pl rfl rfl ?_) | (refine CW.geti rfl rfl (by assumption) rfl rfl (by assumption) (fun _ => ?_)) | (refine CW.getr rfl rfl (by assumption) rfl rfl (by assumption) ?_)))
      refine BW.sw (i' := 21) rfl rfl (by constructor <;> omega) rfl ?_
      (repeat (first | (refine BW.pl rfl rfl ?_) | (refine CW.geti rfl rfl (by assumption) rfl rfl (by assumption) (fun _ => ?_)) | (refine CW.getr rfl rfl (by assumption) rfl rfl (by assumption) ?_)))
      refine CW.e1 rfl rfl (by first | exact Or.inl rfl | exact Or.inr (tagO (by assumption) (by rfl) (by rfl)) | exact Or.inr (tagO (AdrIs.ox (by assumption)) (by rfl) (by rfl)) | exact Or.inr (tagO (PatIs.ox (by assumption)) (by rfl) (by rfl)) | exact Or.inr (tagO (Or0.ox (by assumption)) (by rfl) (by rfl))) (by first | exact Or.inl (by decide) | exact Or.inr ⟨_, rfl, by assumption⟩) rfl (B_alSize hxs3) ?_
      rw [hxl]
      refine CW.x3 rfl rfl (by first | exact Or.inl rfl | exact Or.inr (tagO (by assumption) (by rfl) (by rfl)) | exact Or.inr (tagO (AdrIs.ox (by assumption)) (by rfl) (by rfl)) | exact Or.inr (tagO (PatIs.ox (by assumption)) (by rfl) (by rfl)) | exact Or.inr (tagO (Or0.ox (by assumption)) (by rfl) (by rfl))) (by first | exact Or.inl (by decide) | exact Or.inr ⟨_, rfl, by assumption⟩) rfl rfl (L_behindLabel (lab := sLab os (oNum o.1)) hm3 h493 ⟨hnr.1, by omega⟩ hT3 (fun z => hM _ z (by omega)) (fun k hk => by have := sLab_lt hk; omega) (by omega)) ?_ ?_
      · intro r S4 h4
        rw [← hjm] at h4
        cases hs : sJump os o.1 with
        | inl w9 =>
          rw [hs] at h4
          obtain ⟨q9, e9, _⟩ := h4
          cases e9
        | inr j =>
          rw [hs] at h4
          obtain ⟨e4', rfl⟩ := h4
          cases e4'
          have := jlt j hs
          (repeat (refine BW.pl rfl rfl ?_))
          exact BW.irx rfl (Or.inl ⟨rfl, by constructor <;> omega⟩) (next j h33 (Nat.le_refl _))
      · intro E q9 S4 h4
        rw [← hjm] at h4
        cases hs : sJump os o.1 with
        | inl w9 =>
          rw [hs] at h4
          exact hW3.stR hXF3 hxb hBm.2 h4
        | inr j =>
          rw [hs] at h4
          cases h4.1
    rw [if_neg z98]
    by_cases z84 : oAct o.1 = 84
    · rw [if_pos z84]
      rw [z84] at h483
      (iterate 2 (first | (refine BW.pl rfl rfl ?_) | (refine CW.geti rfl rfl (by assumption) rfl rfl (by assumption) (fun _ => ?_)) | (refine CW.getr rfl rfl (by assumption) rfl rfl (by assumption) ?_)))
      refine BW.sw (i' := 28) rfl rfl (by constructor <;> omega) rfl ?_
      have h143 : Fi S3 14 (K 1) (b2i rp) := hL3.f14
      -- replaced is false from now on
      have at42 : ∀ (j : Nat), j ≤ 26 → BW (d + 187) gm_X13_doOne 42 [some (aR q), some (aI k), some (aR tm), some (aR (OA k 0)), none] [aI j] S3 (SoX S K F q oq ar pq dq la t os OA xs qi ys n0 ((x, false, du, pu, re), (h9, o9, fi, mk, nn, rp), st, tu, false, ru) cap B Bm (.inr (j, setRp ((x, false, du, pu, re), (h9, o9, fi, mk, nn, rp), st + 1, tu, false, rup ru k 0 RR) false))) := fun j hj => by
        (repeat (first | (refine BW.pl rfl rfl ?_) | (refine CW.geti rfl rfl (by assumption) rfl rfl (by assumption) (fun _ => ?_)) | (refine CW.getr rfl rfl (by assumption) rfl rfl (by assumption) ?_)))
        first | (refine CW.putr rfl rfl (by assumption) rfl (by decide) (fun S4 hP4 h144 => ?_)) | (refine CW.puti rfl (by assumption) rfl (by decide) (by first | exact Or.inl ⟨rfl, by first | omega | decide | (constructor <;> first | omega | decide)⟩ | exact Or.inr (Or.inl ⟨rfl, by first | omega | decide | (constructor <;> first | omega | decide)⟩) | exact Or.inr (Or.inr (Or.inl ⟨rfl, by first | omega | decide | (constructor <;> first | omega | decide)⟩)) | exact Or.inr (Or.inr (Or.inr ⟨rfl, by first | omega | decide | (constructor <;> first | omega | decide)⟩))) (fun S4 hP4 h144 => ?_))
        (repeat (refine BW.pl rfl rfl ?_))
        have hL4 : LB S4 K la (idsOfL t) p3 (h9, o9, fi, mk, nn, false) (B + 6 * cap) := hL3.puR hP4 h144 rfl
        have hX4 : XF K (fun _ => False) S3 S4 := XF.rf.pu1 hP4 (by decide)
        have hW4 := StW.xf (B' := B) hW3 hk hX4 ⟨p3, hL4⟩ rfl (fun _ _ z => z)
        refine BW.irx rfl (Or.inl ⟨rfl, by constructor <;> omega⟩) (next j (SiX.of (B2 := B) hW4 ⟨Nat.le_refl _, hcap⟩ (by show _ ≤ B + 240 * (st + 1 - st) + 30 * (pu.length - pu.length); omega) (by show B + 240 * (st + 1 - st) + 30 * (pu.length - pu.length) + 6 * cap ≤ 20000000; omega) (hI3.xa hS hk (XS.of hX4)) (hXF3.tr (XS.of hX4)) LaE.rf (Int.le_refl _) ⟨[], (List.append_nil _).symm⟩ hw (by show du.length ≤ 40 * (st + 1); omega) hst1 (Nat.le_succ _) (Nat.le_refl _) rfl rfl) (Nat.le_refl _))
      have esr : sRpS ((x, false, du, pu, re), (h9, o9, fi, mk, nn, rp), st + 1, tu, false, rup ru k 0 RR) = rp := rfl
      rw [esr]
      cases rp with
      | false =>
        rw [if_neg (by decide)]
        replace h143 : Fi S3 14 (K 1) 0 := h143
        (repeat (first | (refine BW.pl rfl rfl ?_) | (refine CW.geti rfl rfl (by assumption) rfl rfl (by assumption) (fun _ => ?_)) | (refine CW.getr rfl rfl (by assumption) rfl rfl (by assumption) ?_)))
        refine BW.br rfl rfl (by first | omega | decide | (constructor <;> first | omega | decide)) (fun w5 => ?_) (fun w5 => by first | (exfalso; omega) | exact absurd w5 (by decide))
        (iterate 3 (refine BW.pl rfl rfl ?_))
        exact at42 (k + 1) (by omega)
      | true =>
        rw [if_pos rfl]
        replace h143 : Fi S3 14 (K 1) 1 := h143
        (repeat (first | (refine BW.pl rfl rfl ?_) | (refine CW.geti rfl rfl (by assumption) rfl rfl (by assumption) (fun _ => ?_)) | (refine CW.getr rfl rfl (by assumption) rfl rfl (by assumption) ?_)))
        refine BW.br rfl rfl (by first | omega | decide | (constructor <;> first | omega | decide)) (fun w5 => by first | (exfalso; omega) | exact absurd w5 (by decide)) (fun w5 => ?_)
        (repeat (first | (refine BW.pl rfl rfl ?_) | (refine CW.geti rfl rfl (by assumption) rfl rfl (by assumption) (fun _ => ?_)) | (refine CW.getr rfl rfl (by assumption) rfl rfl (by assumption) ?_)))
        refine CW.e1 rfl rfl (by first | exact Or.inl rfl | exact Or.inr (tagO (by assumption) (by rfl) (by rfl)) | exact Or.inr (tagO (AdrIs.ox (by assumption)) (by rfl) (by rfl)) | exact Or.inr (tagO (PatIs.ox (by assumption)) (by rfl) (by rfl)) | exact Or.inr (tagO (Or0.ox (by assumption)) (by rfl) (by rfl))) (by first | exact Or.inl (by decide) | exact Or.inr ⟨_, rfl, by assumption⟩) rfl (B_alSize hxs3) ?_
        rw [hxl]
        refine CW.x3 rfl rfl (by first | exact Or.inl rfl | exact Or.inr (tagO (by assumption) (by rfl) (by rfl)) | exact Or.inr (tagO (AdrIs.ox (by assumption)) (by rfl) (by rfl)) | exact Or.inr (tagO (PatIs.ox (by assumption)) (by rfl) (by rfl)) | exact Or.inr (tagO (Or0.ox (by assumption)) (by rfl) (by rfl))) (by first | exact Or.inl (by decide) | exact Or.inr ⟨_, rfl, by assumption⟩) rfl rfl (L_behindLabel (lab := sLab os (oNum o.1)) hm3 h493 ⟨hnr.1, by omega⟩ hT3 (fun z => hM _ z (by omega)) (fun k hk => by have := sLab_lt hk; omega) (by omega)) ?_ ?_
        · intro r S4 h4
          rw [← hjm] at h4
          cases hs : sJump os o.1 with
          | inl w9 =>
            rw [hs] at h4
            obtain ⟨q9, e9, _⟩ := h4
            cases e9
          | inr j =>
            rw [hs] at h4
            obtain ⟨e4', rfl⟩ := h4
            cases e4'
            have := jlt j hs
            (iterate 1 (refine BW.pl rfl rfl ?_))
            exact at42 j (by omega)
        · intro E q9 S4 h4
          rw [← hjm] at h4
          cases hs : sJump os o.1 with
          | inl w9 =>
            rw [hs] at h4
            exact hW3.stR hXF3 hxb hBm.2 h4
          | inr j =>
            rw [hs] at h4
            cases h4.1
    rw [if_neg z84]
    have hB25 : B + 149500 ≤ Bm ∧ Bm ≤ 20000000 := by omega
    by_cases z113 : oAct o.1 = 113
    · rw [if_pos z113]
      rw [z113] at h483
      (iterate 2 (first | (refine BW.pl rfl rfl ?_) | (refine CW.geti rfl rfl (by assumption) rfl rfl (by assumption) (fun _ => ?_)) | (refine CW.getr rfl rfl (by assumption) rfl rfl (by assumption) ?_)))
      refine BW.sw (i' := 49) rfl rfl (by constructor <;> omega) rfl ?_
      have ePS : stPutS ((x, false, du, pu, re), (h9, o9, fi, mk, nn, rp), st + 1, tu, false, rup ru k 0 RR) = match stPutWork (x, false, du, pu, re) (h9, o9, fi, mk, nn, rp) with
        | .inl w => .inl w
        | .inr (W1, B1) => .inr (W1, B1, st + 1, tu, false, rup ru k 0 RR) := rfl
      rw [ePS]
      (repeat (refine BW.pl rfl rfl ?_))
      refine CW.x1 rfl rfl (by first | exact Or.inl rfl | exact Or.inr (tagO (by assumption) (by rfl) (by rfl)) | exact Or.inr (tagO (AdrIs.ox (by assumption)) (by rfl) (by rfl)) | exact Or.inr (tagO (PatIs.ox (by assumption)) (by rfl) (by rfl)) | exact Or.inr (tagO (Or0.ox (by assumption)) (by rfl) (by rfl))) (by first | exact Or.inl (by decide) | exact Or.inr ⟨_, rfl, by assumption⟩) rfl rfl (L_putWork (d := d + 181) (Bm := Bm) hW3 hk hw hcap hn hB25) ?_ ?_
      · intro r S4 h4
        revert h4
        cases hs : stPutWork (x, false, du, pu, re) (h9, o9, fi, mk, nn, rp) with
        | inl w =>
          rintro ⟨_, _, _, _, _, _, _, _, _, _, q9, e9, _⟩
          cases e9
        | inr z =>
          obtain ⟨W1, G1⟩ := z
          obtain ⟨pu1, n1, rfl, rfl, hpl⟩ := stPutWork_out hs
          obtain ⟨hwp, -⟩ := WS.wsp hw hs
          rintro ⟨e4, la4, h4, hX4, hE4, hn4, hex4⟩
          cases e4
          have h4 : StS S4 K la4 q oq ar pq dq t ((x, false, [], pu1, re), (h9, o9, fi, mk, n1, rp), st + 1, tu, false, rup ru k 0 RR) (pu1 ++ re) cap (B + 16 + 30 * (pu1.length - pu.length)) := h4
          have hpu1 : pu1.length ≤ 40 := hwp.2.2.2.2.2.2.2.2.1
          have eR : stRest (stOver ((x, false, [], pu1, re), (h9, o9, fi, mk, n1, rp), st + 1, tu, false, rup ru k 0 RR)) = if 40 < pu1.length + re.length then .inl 4 else .inr ((x, false, [], pu1 ++ re, []), (h9, o9, fi, mk, n1, rp), st + 1, tu, true, rup ru k 0 RR) := rfl
          dsimp only
          rw [eR]
          have hq4 := h4.1.1
          (repeat (refine BW.pl rfl rfl ?_))
          refine CW.x1 rfl rfl (by first | exact Or.inl rfl | exact Or.inr (tagO (by assumption) (by rfl) (by rfl)) | exact Or.inr (tagO (AdrIs.ox (by assumption)) (by rfl) (by rfl)) | exact Or.inr (tagO (PatIs.ox (by assumption)) (by rfl) (by rfl)) | exact Or.inr (tagO (Or0.ox (by assumption)) (by rfl) (by rfl))) (by first | exact Or.inl (by decide) | exact Or.inr ⟨_, rfl, by assumption⟩) rfl rfl (L_putRest (d := d + 181) (Bm := Bm) h4 hk h40 hpu1 hcap (by omega)) ?_ ?_
          · intro r S5 h5
            revert h5
            by_cases z40 : 40 < pu1.length + re.length
            · rw [if_pos z40, if_pos z40]
              rintro ⟨_, _, _, _, _, _, _, _, _, _, q9, e9, _⟩
              cases e9
            · rw [if_neg z40, if_neg z40]
              rintro ⟨e5, h5, hX5⟩
              cases e5
              (repeat (refine BW.pl rfl rfl ?_))
              refine BW.irx rfl (Or.inl ⟨rfl, by constructor <;> omega⟩) ⟨rfl, la4, cap, ⟨Nat.le_refl _, hcap⟩, ?_, hI3.xa hS hk (hX4.tr hX5), (hXF3.tr hX4.up).tr hX5.up, hE4, hn4, hex4, hst1, Nat.le_succ _, ?_, Nat.zero_le _, ?_⟩
              · unfold StZ
                rw [if_pos rfl, if_pos rfl]
                refine ⟨?_, hwp.rest (by omega), rfl⟩
                have h5 := h5.le (B' := B + 240 * (st + 1 - st) + 30 * ((pu1 ++ re).length - pu.length) + 750 * (re.length - 0) + 800) (by rw [List.length_append]; omega) (by rw [List.length_append]; omega)
                show StS S5 K la4 q oq ar pq dq t ((x, false, [], pu1 ++ re, []), (h9, o9, fi, mk, n1, rp), st + 1, tu, true, rup ru k 0 RR) ((pu1 ++ re) ++ []) cap _
                rw [List.append_nil]
                exact h5
              · show pu.length ≤ (pu1 ++ re).length
                rw [List.length_append]; omega
              · show tu + 0 ≤ tu + re.length
                omega
          · intro E q9 S5 h5
            revert h5
            by_cases z40 : 40 < pu1.length + re.length
            · rw [if_pos z40, if_pos z40]
              exact fun h5 => StR.pre (hXF3.tr hX4.up) hE4 hn4 hex4 h5
            · rw [if_neg z40, if_neg z40]
              rintro ⟨e5, _⟩
              cases e5
      · intro E q9 S4 h4
        revert h4
        cases hs : stPutWork (x, false, du, pu, re) (h9, o9, fi, mk, nn, rp) with
        | inl w => exact fun h4 => StR.pre hXF3 LaE.rf (Int.le_refl _) ⟨[], by simp⟩ h4
        | inr z =>
          obtain ⟨W1, G1⟩ := z
          rintro ⟨e4, _⟩
          cases e4
    rw [if_neg z113]
    have z78 : oAct o.1 = 78 := by omega
    rw [z78] at h483
    (iterate 2 (first | (refine BW.pl rfl rfl ?_) | (refine CW.geti rfl rfl (by assumption) rfl rfl (by assumption) (fun _ => ?_)) | (refine CW.getr rfl rfl (by assumption) rfl rfl (by assumption) ?_)))
    refine BW.sw (i' := 57) rfl rfl (by constructor <;> omega) rfl ?_
    have ePS : stPutS ((x, false, du, pu, re), (h9, o9, fi, mk, nn, rp), st + 1, tu, false, rup ru k 0 RR) = match stPutWork (x, false, du, pu, re) (h9, o9, fi, mk, nn, rp) with
      | .inl w => .inl w
      | .inr (W1, B1) => .inr (W1, B1, st + 1, tu, false, rup ru k 0 RR) := rfl
    rw [ePS]
    (repeat (refine BW.pl rfl rfl ?_))
    refine CW.x1 rfl rfl (by first | exact Or.inl rfl | exact Or.inr (tagO (by assumption) (by rfl) (by rfl)) | exact Or.inr (tagO (AdrIs.ox (by assumption)) (by rfl) (by rfl)) | exact Or.inr (tagO (PatIs.ox (by assumption)) (by rfl) (by rfl)) | exact Or.inr (tagO (Or0.ox (by assumption)) (by rfl) (by rfl))) (by first | exact Or.inl (by decide) | exact Or.inr ⟨_, rfl, by assumption⟩) rfl rfl (L_goToNext (d := d + 180) (Bm := Bm) hW3 hk hw h40 (by omega) hcap hn hB25) ?_ ?_
    · intro r S4 h4
      revert h4
      cases hs : stPutWork (x, false, du, pu, re) (h9, o9, fi, mk, nn, rp) with
      | inl w =>
        rintro ⟨_, _, _, _, _, _, _, _, _, _, q9, e9, _⟩
        cases e9
      | inr z =>
        obtain ⟨W1, G1⟩ := z
        obtain ⟨pu1, n1, rfl, rfl, hpl⟩ := stPutWork_out hs
        obtain ⟨hwp, -⟩ := WS.wsp hw hs
        have hpu1 : pu1.length ≤ 40 := hwp.2.2.2.2.2.2.2.2.1
        rintro ⟨e4, la4, hX4, hE4, hn4, hex4, k1, k2⟩
        cases e4
        dsimp only
        (repeat (refine BW.pl rfl rfl ?_))
        cases re with
        | nil =>
          rw [if_pos rfl]
          have h4 := k1 rfl
          refine BW.irx rfl (Or.inl ⟨rfl, by constructor <;> omega⟩) ⟨rfl, la4, cap, ⟨Nat.le_refl _, hcap⟩, ?_, hI3.xa hS hk hX4, hXF3.tr hX4.up, hE4, hn4, hex4, hst1, Nat.le_succ _, hpl, Nat.le_refl _, Nat.le_refl _⟩
          unfold StZ
          have eO : sOverS (stOver ((x, false, [], pu1, []), (h9, o9, fi, mk, n1, rp), st + 1, tu, false, rup ru k 0 RR)) = true := rfl
          rw [if_pos eO, if_pos eO]
          exact ⟨h4.le (by show B + 16 + 30 * (pu1.length - pu.length) ≤ B + 240 * (st + 1 - st) + 30 * (pu1.length - pu.length) + 750 * (0 - 0) + 800; omega) (by show B + 240 * (st + 1 - st) + 30 * (pu1.length - pu.length) + 750 * (0 - 0) + 800 + 6 * cap ≤ 20000000; omega), hwp, rfl⟩
        | cons z re =>
          rw [if_neg (by intro z; cases z)]
          have h4 := k2 z re rfl
          have hzl : (z :: re).length = re.length + 1 := rfl
          refine BW.irx rfl (Or.inl ⟨rfl, by constructor <;> omega⟩) ⟨rfl, la4, cap, ⟨Nat.le_refl _, hcap⟩, ?_, hI3.xa hS hk hX4, hXF3.tr hX4.up, hE4, hn4, hex4, hst1, Nat.le_succ _, hpl, Nat.le_succ _, ?_⟩
          · unfold StZ
            rw [if_neg (by show ¬ (false = true); decide), if_neg (by show ¬ (false = true); decide)]
            exact ⟨h4.le (by show B + 16 + 30 * (pu1.length - pu.length) ≤ B + 240 * (st + 1 - st) + 30 * (pu1.length - pu.length) + 750 * ((z :: re).length - re.length) + 0; omega) (by show B + 240 * (st + 1 - st) + 30 * (pu1.length - pu.length) + 750 * ((z :: re).length - re.length) + 0 + 6 * cap ≤ 20000000; omega), WSP.take hwp, Nat.zero_le _⟩
          · show tu + 1 + re.length ≤ tu + (re.length + 1)
            omega
    · intro E q9 S4 h4
      revert h4
      cases hs : stPutWork (x, false, du, pu, re) (h9, o9, fi, mk, nn, rp) with
      | inl w => exact fun h4 => StR.pre hXF3 LaE.rf (Int.le_refl _) ⟨[], by simp⟩ h4
      | inr z =>
        obtain ⟨W1, G1⟩ := z
        rintro ⟨e4, _⟩
        cases e4
end SO
