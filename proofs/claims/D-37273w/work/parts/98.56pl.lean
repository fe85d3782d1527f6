-- C
set_option maxRecDepth 100000
/-! LINEORDERS: a stream: play -/
/-- within a line -/
def LnI (S : BS) (K : Nat → Nat) (F : Nat → Prop) (q oq ar pq dq : Nat) (la : Int → Nat) (t : List SLine) (os : List SOrd) (OA : Nat → Nat → Nat) (xs : List (Option Nat)) (qi : Nat → Nat) (ys : Nat → List (Option Nat)) (n0 : Int) (Sg0 : SS) (cap B : Nat) (Sg1 : SS) (S' : BS) : Prop := ∃ la1 cap1, (cap ≤ cap1 ∧ cap1 ≤ 24400) ∧ StZ S' K la1 q oq ar pq dq t n0 Sg1 cap1 (B + 240 * (Sg1.2.2.1 - Sg0.2.2.1) + 30 * (Sg1.1.2.2.2.1.length - Sg0.1.2.2.2.1.length) + 750 * (Sg0.1.2.2.2.2.length - Sg1.1.2.2.2.2.length) + (if sOverS Sg1 = true then 800 else 0)) ∧ OsI S' F t.length os Sg1.2.2.2.2.2 OA xs qi ys oq ∧ XS K F (WSt q pq dq) S S' ∧ LaE la la1 Sg0.2.1.2.2.2.2.1 ∧ Sg0.2.1.2.2.2.2.1 ≤ Sg1.2.1.2.2.2.2.1 ∧ (∃ ex, Sg1.2.1.2.1 = Sg0.2.1.2.1 ++ ex) ∧ Sg1.2.2.1 ≤ 400 ∧ Sg0.2.2.1 ≤ Sg1.2.2.1 ∧ Sg0.1.2.2.2.1.length ≤ Sg1.1.2.2.2.1.length ∧ Sg1.1.2.2.2.2.length ≤ Sg0.1.2.2.2.2.length ∧ Sg1.2.2.2.1 + Sg1.1.2.2.2.2.length ≤ Sg0.2.2.2.1 + Sg0.1.2.2.2.2.length
/-- between two lines -/
def LpI (S : BS) (K : Nat → Nat) (F : Nat → Prop) (q oq ar pq dq : Nat) (la : Int → Nat) (t : List SLine) (os : List SOrd) (OA : Nat → Nat → Nat) (xs : List (Option Nat)) (qi : Nat → Nat) (ys : Nat → List (Option Nat)) (n0 nn : Int) (o9 : List (List Int)) (cap B : Nat) (Sg1 : SS) (S' : BS) : Prop := ∃ la1 cap1, (cap ≤ cap1 ∧ cap1 ≤ 24400) ∧ (StS S' K la1 q oq ar pq dq t Sg1 (Sg1.1.2.2.2.1 ++ Sg1.1.2.2.2.2) cap1 (B + 240 * Sg1.2.2.1 + 30 * Sg1.1.2.2.2.1.length + 800 * (t.length - Sg1.1.2.2.2.2.length) + (if sOverS Sg1 = true then 800 else 0)) ∧ WSP n0 Sg1.1 Sg1.2.1 ∧ Sg1.1.2.2.1 = []) ∧ OsI S' F t.length os Sg1.2.2.2.2.2 OA xs qi ys oq ∧ XS K F (WSt q pq dq) S S' ∧ LaE la la1 nn ∧ nn ≤ Sg1.2.1.2.2.2.2.1 ∧ (∃ ex, Sg1.2.1.2.1 = o9 ++ ex) ∧ Sg1.2.2.1 ≤ 400 ∧ Sg1.2.2.2.1 + Sg1.1.2.2.2.2.length ≤ t.length
section PL
variable {d n m q oq ar pq dq a b f y cap cap' cap1 c i k B B' B1 B2 st tu p Bm tm j : Nat} {S S' S1 S2 : BS} {K : Nat → Nat} {V F : Nat → Prop} {o : SOrd} {la la1 : Int → Nat} {t pu re pu1 re1 rs : List SLine} {x z x1 : SLine} {g g1 ov rp run bb : Bool} {du rows du1 du' : List (List Int)} {W W1 : WG} {G G1 : BG} {ru : Nat → Nat → RG} {r : Option Nat} {v nn n0 : Int} {h9 o9 : List (List Int)} {fi : Nat → List (List Int)} {mk : Nat → Option Int} {od : SOrd0} {w : Nat} {rg : GO} {xs : List (Option Nat)} {os : List SOrd} {OA : Nat → Nat → Nat} {qi : Nat → Nat} {ys : Nat → List (Option Nat)} {Sg Sg0 Sg1 Sg2 : SS} {Q : GO → BS → Prop} {Mm : Int → Option Nat}
theorem stOne_j {L : Nat} (hk : k < os.length) (hs : stOne L os k o Sg = .inr (j, Sg1)) : j ≤ os.length := by
  have jl : ∀ {od j}, sJump os od = .inr j → j ≤ os.length := fun {od j} h => by
    unfold sJump at h
    split at h
    · cases h; exact Nat.le_refl _
    · split at h
      · cases h
      · rename_i k9 e
        cases h
        have := sLab_lt e
        omega
  rw [stOne_eq] at hs
  cases hc : stCome L k 0 o.1 Sg with
  | inl w => rw [hc] at hs; cases hs
  | inr z =>
    obtain ⟨b, S1⟩ := z
    rw [hc] at hs
    cases b with
    | false => cases hs; exact hk
    | true =>
      dsimp only at hs
      split at hs
      · cases hs; exact hk
      split at hs
      · unfold stSte at hs
        split at hs
        · split at hs
          · cases hs
          · rename_i e; cases hs; exact jl e
        split at hs
        · split at hs
          · split at hs
            · cases hs
            · rename_i e; cases hs; exact jl e
          · cases hs; exact hk
        split at hs
        · split at hs
          · cases hs
          · split at hs
            · cases hs
            · cases hs; exact hk
        · split at hs
          · cases hs
          · cases hs; exact hk
      split at hs
      · unfold nxP at hs
        split at hs
        · cases hs
        · cases hs; exact hk
      · unfold nxP at hs
        split at hs
        · cases hs
        · cases hs; exact hk
theorem LnI.tr (h : LnI S K F q oq ar pq dq la t os OA xs qi ys n0 Sg0 cap B Sg1 S1) (hov : sOverS Sg1 = false) (hc : cap ≤ cap1) (hE : LaE la la1 Sg0.2.1.2.2.2.2.1) (h2 : SoX S1 K F q oq ar pq dq la1 t os OA xs qi ys n0 Sg1 cap1 (B + 240 * (Sg1.2.2.1 - Sg0.2.2.1) + 30 * (Sg1.1.2.2.2.1.length - Sg0.1.2.2.2.1.length) + 750 * (Sg0.1.2.2.2.2.length - Sg1.1.2.2.2.2.length)) Bm (.inr (j, Sg2)) rg S2) : LnI S K F q oq ar pq dq la t os OA xs qi ys n0 Sg0 cap B Sg2 S2 := by
  obtain ⟨_, _, -, -, -, a4, -, a6, ⟨ex, a7⟩, a8, a9, a10, a11, a12⟩ := h
  obtain ⟨-, la2, cap2, ⟨b1, b2⟩, bZ, bI, b4, b5, b6, ⟨ex2, b7⟩, b8, b9, b10, b11, b12⟩ := h2
  have e : B + 240 * (Sg1.2.2.1 - Sg0.2.2.1) + 30 * (Sg1.1.2.2.2.1.length - Sg0.1.2.2.2.1.length) + 750 * (Sg0.1.2.2.2.2.length - Sg1.1.2.2.2.2.length) + 240 * (Sg2.2.2.1 - Sg1.2.2.1) + 30 * (Sg2.1.2.2.2.1.length - Sg1.1.2.2.2.1.length) + 750 * (Sg1.1.2.2.2.2.length - Sg2.1.2.2.2.2.length) = B + 240 * (Sg2.2.2.1 - Sg0.2.2.1) + 30 * (Sg2.1.2.2.2.1.length - Sg0.1.2.2.2.1.length) + 750 * (Sg0.1.2.2.2.2.length - Sg2.1.2.2.2.2.length) := by omega
  rw [e] at bZ
  exact ⟨la2, cap2, ⟨by omega, b2⟩, bZ, bI, a4.tr b4, hE.tr b5 a6, by omega, ⟨ex ++ ex2, by rw [b7, a7, List.append_assoc]⟩, b8, by omega, by omega, by omega, by omega⟩
/-- all orders with a line -/
theorem L_stLin (hk : StK K F q ar pq dq) (h40 : t.length ≤ 40) (hS : OsS F oq os OA xs qi ys) (hos : ∀ o ∈ os, OgK o ∧ OrdOk o) (hol : os.length ≤ 25) (hT : Ob S tm (oTm Mm)) (hM : ∀ nr, 0 ≤ nr → nr < 100 → Mm nr = (sLab os nr).map (fun k => k + 128)) (ktm : KoM K tm) (wtm : ¬ WSt q pq dq tm) (hn : n0 < 1900000) (htu : Sg0.2.2.2.1 + Sg0.1.2.2.2.2.length ≤ 1000) (hBm : B + 240 * (400 - Sg0.2.2.1) + 2400 + 153000 + 750 * Sg0.1.2.2.2.2.length ≤ Bm ∧ Bm ≤ 20000000) :
    ∀ (f k : Nat) (Sg1 : SS) (S1 : BS), 402 ≤ f + Sg1.2.2.1 → k ≤ 26 → LnI S K F q oq ar pq dq la t os OA xs qi ys n0 Sg0 cap B Sg1 S1 →
    (∀ (Sg2 : SS) (S2 : BS) (j : Nat), stLine t.length os f k Sg1 = .inr Sg2 → LnI S K F q oq ar pq dq la t os OA xs qi ys n0 Sg0 cap B Sg2 S2 → BW (d + 188) gm_X13_play 38 [some (aR q), some (aR tm), some (aI j)] [] S2 Q) →
    (∀ w rg S2, stLine t.length os f k Sg1 = .inl w → StR S K F q pq dq la Sg0.2.1.2.2.2.2.1 Sg0.2.1.2.1 Bm w rg S2 → Q rg S2) →
    BW (d + 188) gm_X13_play 21 [some (aR q), some (aR tm), some (aI k)] [] S1 Q := by
  intro f
  induction f with
  | zero =>
    intro k Sg1 S1 h402 _ h
    obtain ⟨_, _, _, _, _, _, _, _, _, h400, _⟩ := h
    omega
  | succ f ih =>
    intro k Sg1 S1 h402 hk26 h kk kr
    obtain ⟨la1, cap1, ⟨hc1, hc2⟩, hZ, hI1, hX1, hE1, hn1, hex1, hst1, hst2, hpu1, hre1, htu1⟩ := id h
    obtain ⟨⟨x, g, du, pu, re⟩, ⟨h9, o9, fi, mk, nn, rp⟩, st, tu, ov, ru⟩ := Sg1
    obtain ⟨cx, hxs⟩ := hI1.1
    have hxl := hS.2.1.1
    have hcom : StO S1 K la1 q oq ar pq dq t ∧ Fi S1 88 q (b2i ov) := by
      unfold StZ at hZ
      split at hZ
      · exact ⟨hZ.1.1, hZ.1.2.2.2.2.1.1.2.2.1⟩
      · exact ⟨hZ.1.1.1, hZ.1.1.2.2.2.2.1.1.2.2.1⟩
    obtain ⟨⟨hq, h79, h80, h81, h82, h90, har⟩, h88⟩ := hcom
    have eL : stLine t.length os (f + 1) k ((x, g, du, pu, re), (h9, o9, fi, mk, nn, rp), st, tu, ov, ru) = if g = true ∨ ov = true then .inr ((x, g, du, pu, re), (h9, o9, fi, mk, nn, rp), st, tu, ov, ru) else match os[k]? with
      | none => .inr ((x, g, du, pu, re), (h9, o9, fi, mk, nn, rp), st, tu, ov, ru)
      | some o => match stOne t.length os k o ((x, g, du, pu, re), (h9, o9, fi, mk, nn, rp), st, tu, ov, ru) with
        | .inl w => .inl w
        | .inr (j, S1) => stLine t.length os f j S1 := rfl
    (repeat (first | (refine BW.pl rfl rfl ?_) | (refine CW.geti rfl rfl (by assumption) rfl rfl (by assumption) (fun _ => ?_)) | (refine CW.getr rfl rfl (by assumption) rfl rfl (by assumption) ?_)))
    refine CW.e1 rfl rfl (by first | exact Or.inl rfl | exact Or.inr (tagO (by assumption) (by rfl) (by rfl)) | exact Or.inr (tagO (AdrIs.ox (by assumption)) (by rfl) (by rfl)) | exact Or.inr (tagO (PatIs.ox (by assumption)) (by rfl) (by rfl)) | exact Or.inr (tagO (Or0.ox (by assumption)) (by rfl) (by rfl))) (by first | exact Or.inl (by decide) | exact Or.inr ⟨_, rfl, by assumption⟩) rfl (B_alSize hxs) ?_
    rw [hxl]
    by_cases hkl : k < os.length
    rotate_left
    · refine BW.br rfl rfl (by first | omega | decide | (constructor <;> first | omega | decide)) (fun w => ?_) (fun w => by first | (exfalso; omega) | exact absurd w (by decide))
      refine kk _ S1 k ?_ h
      rw [eL, List.getElem?_eq_none (by omega)]
      split <;> rfl
    refine BW.br rfl rfl (by first | omega | decide | (constructor <;> first | omega | decide)) (fun w => by first | (exfalso; omega) | exact absurd w (by decide)) (fun w => ?_)
    cases ov with
    | true =>
      have e9 := kk _ S1 k (by rw [eL, if_pos (Or.inr rfl)]) h
      have h87 : Fi S1 87 q (S1.2.1 87 q) := rfl
      replace h88 : Fi S1 88 q 1 := h88
      (repeat (first | (refine BW.pl rfl rfl ?_) | (refine CW.geti rfl rfl (by assumption) rfl rfl (by assumption) (fun _ => ?_)) | (refine CW.getr rfl rfl (by assumption) rfl rfl (by assumption) ?_)))
      generalize S1.2.1 87 q = v87 at *
      by_cases z87 : v87 = 0
      · refine BW.br rfl rfl (by first | omega | decide | (constructor <;> first | omega | decide)) (fun w2 => by first | (exfalso; omega) | exact absurd w2 (by decide)) (fun w2 => ?_)
        (repeat (first | (refine BW.pl rfl rfl ?_) | (refine CW.geti rfl rfl (by assumption) rfl rfl (by assumption) (fun _ => ?_)) | (refine CW.getr rfl rfl (by assumption) rfl rfl (by assumption) ?_)))
        refine BW.br rfl rfl (by first | omega | decide | (constructor <;> first | omega | decide)) (fun w3 => ?_) (fun w3 => by first | (exfalso; omega) | exact absurd w3 (by decide))
        exact e9
      · refine BW.br rfl rfl (by first | omega | decide | (constructor <;> first | omega | decide)) (fun w2 => ?_) (fun w2 => by first | (exfalso; omega) | exact absurd w2 (by decide))
        exact e9
    | false =>
      have hZ2 : StW S1 K la1 q oq ar pq dq t ((x, g, du, pu, re), (h9, o9, fi, mk, nn, rp), st, tu, false, ru) cap1 (B + 240 * (st - Sg0.2.2.1) + 30 * (pu.length - Sg0.1.2.2.2.1.length) + 750 * (Sg0.1.2.2.2.2.length - re.length) + 0) ∧ WS n0 (x, g, du, pu, re) (h9, o9, fi, mk, nn, rp) ∧ du.length ≤ 40 * st := by
        unfold StZ at hZ
        rw [if_neg (by show ¬ (false = true); decide), if_neg (by show ¬ (false = true); decide)] at hZ
        exact hZ
      obtain ⟨hW, hw, hdu⟩ := hZ2
      rw [Nat.add_zero] at hW
      replace h88 : Fi S1 88 q 0 := h88
      have h87 : Fi S1 87 q (b2i g) := hW.2.2.2
      cases g with
      | true =>
        have e9 := kk _ S1 k (by rw [eL, if_pos (Or.inl rfl)]) h
        replace h87 : Fi S1 87 q 1 := h87
        (repeat (first | (refine BW.pl rfl rfl ?_) | (refine CW.geti rfl rfl (by assumption) rfl rfl (by assumption) (fun _ => ?_)) | (refine CW.getr rfl rfl (by assumption) rfl rfl (by assumption) ?_)))
        refine BW.br rfl rfl (by first | omega | decide | (constructor <;> first | omega | decide)) (fun w2 => ?_) (fun w2 => by first | (exfalso; omega) | exact absurd w2 (by decide))
        exact e9
      | false =>
        replace h87 : Fi S1 87 q 0 := h87
        (repeat (first | (refine BW.pl rfl rfl ?_) | (refine CW.geti rfl rfl (by assumption) rfl rfl (by assumption) (fun _ => ?_)) | (refine CW.getr rfl rfl (by assumption) rfl rfl (by assumption) ?_)))
        refine BW.br rfl rfl (by first | omega | decide | (constructor <;> first | omega | decide)) (fun w2 => by first | (exfalso; omega) | exact absurd w2 (by decide)) (fun w2 => ?_)
        (repeat (first | (refine BW.pl rfl rfl ?_) | (refine CW.geti rfl rfl (by assumption) rfl rfl (by assumption) (fun _ => ?_)) | (refine CW.getr rfl rfl (by assumption) rfl rfl (by assumption) ?_)))
        refine BW.br rfl rfl (by first | omega | decide | (constructor <;> first | omega | decide)) (fun w3 => by first | (exfalso; omega) | exact absurd w3 (by decide)) (fun w3 => ?_)
        (repeat (refine BW.pl rfl rfl ?_))
        have hno : ¬ ((false : Bool) = true ∨ (false : Bool) = true) := by decide
        rw [if_neg hno, List.getElem?_eq_getElem hkl] at eL
        have eo : os.getD k noOrd = os[k] := by rw [List.getD_eq_getElem?_getD, List.getElem?_eq_getElem hkl]; rfl
        obtain ⟨hog, hok⟩ := hos os[k] (List.getElem_mem hkl)
        have hT1 : Ob S1 tm (oTm Mm) := hX1.ob hT ktm wtm (oNe rfl) rfl
        have hpu40 : pu.length ≤ 40 := hw.2.2.2.2.2.2.2.2.1
        have hst1 : st ≤ 400 := hst1
        have hst2 : Sg0.2.2.1 ≤ st := hst2
        have hpu1 : Sg0.1.2.2.2.1.length ≤ pu.length := hpu1
        have hre1 : re.length ≤ Sg0.1.2.2.2.2.length := hre1
        have htu1 : tu + re.length ≤ Sg0.2.2.2.1 + Sg0.1.2.2.2.2.length := htu1
        have h402 : 402 ≤ f + 1 + st := h402
        refine CW.x3 rfl rfl (by first | exact Or.inl rfl | exact Or.inr (tagO (by assumption) (by rfl) (by rfl)) | exact Or.inr (tagO (AdrIs.ox (by assumption)) (by rfl) (by rfl)) | exact Or.inr (tagO (PatIs.ox (by assumption)) (by rfl) (by rfl)) | exact Or.inr (tagO (Or0.ox (by assumption)) (by rfl) (by rfl))) (by first | exact Or.inl (by decide) | exact Or.inr ⟨_, rfl, by assumption⟩) rfl rfl (L_stOne (d := d) (k := k) (Bm := Bm) hW hk hw h40 hI1 hS hkl eo hog hok hol hT1 hM ktm wtm hc2 hdu hst1 (by omega) hn (by omega) rfl) ?_ ?_
        · intro r S2 h2
          cases hs : stOne t.length os k os[k] ((x, false, du, pu, re), (h9, o9, fi, mk, nn, rp), st, tu, false, ru) with
          | inl w =>
            rw [hs] at h2
            obtain ⟨_, _, _, _, _, _, _, _, _, _, q9, e9, _⟩ := h2
            cases e9
          | inr z =>
            obtain ⟨j, Sg2⟩ := z
            rw [hs] at h2
            have h3 := LnI.tr h rfl hc1 hE1 h2
            obtain ⟨e2, _⟩ := h2
            cases e2
            have hjl := stOne_j hkl hs
            have hs1 : st + 1 ≤ Sg2.2.2.1 := stOne_st hs
            (iterate 2 (refine BW.pl rfl rfl ?_))
            refine ih j Sg2 S2 (by omega) (by omega) h3 (fun Sg3 S3 j3 e3 h4 => kk Sg3 S3 j3 ?_ h4) (fun w rg S3 e3 h4 => kr w rg S3 ?_ h4)
            · rw [eL]
              dsimp only
              rw [hs]
              exact e3
            · rw [eL]
              dsimp only
              rw [hs]
              exact e3
        · intro E q9 S2 h2
          cases hs : stOne t.length os k os[k] ((x, false, du, pu, re), (h9, o9, fi, mk, nn, rp), st, tu, false, ru) with
          | inl w =>
            rw [hs] at h2
            refine kr w _ S2 ?_ (StR.pre hX1 hE1 hn1 hex1 h2)
            rw [eL]
            dsimp only
            rw [hs]
          | inr z =>
            rw [hs] at h2
            cases h2.1
theorem stLin_0 (h : stLine t.length os f k Sg = .inr Sg1) (ho : sOverS Sg1 = true) : stLin t.length os f k Sg = .inr Sg1 := by
  unfold stLin
  rw [h]
  dsimp only
  rw [if_pos ho]
theorem stLin_1 (h : stLine t.length os f k Sg = .inr Sg1) (ho : sOverS Sg1 = false) : stLin t.length os f k Sg = stPutS Sg1 := by
  unfold stLin
  rw [h]
  dsimp only
  rw [if_neg (by rw [ho]; decide)]
theorem stLin_w (h : stLine t.length os f k Sg = .inl w) : stLin t.length os f k Sg = .inl w := by
  unfold stLin
  rw [h]
/-- all lines -/
theorem L_stAll (hk : StK K F q ar pq dq) (h40 : t.length ≤ 40) (hS : OsS F oq os OA xs qi ys) (hos : ∀ o ∈ os, OgK o ∧ OrdOk o) (hol : os.length ≤ 25) (hT : Ob S tm (oTm Mm)) (hM : ∀ nr, 0 ≤ nr → nr < 100 → Mm nr = (sLab os nr).map (fun k => k + 128)) (ktm : KoM K tm) (wtm : ¬ WSt q pq dq tm) (hn : n0 < 1900000) (hBm : B + 285500 ≤ Bm ∧ Bm ≤ 20000000) :
    ∀ (f : Nat) (Sg1 : SS) (S1 : BS) (v2 : Option GV), gn1 v2 = true → Sg1.1.2.2.2.2.length ≤ f → LpI S K F q oq ar pq dq la t os OA xs qi ys n0 nn o9 cap B Sg1 S1 →
    (∀ (Sg2 : SS) (S2 : BS) (v2 : Option GV), gn1 v2 = true → stAll t.length os f Sg1 = .inr Sg2 → LpI S K F q oq ar pq dq la t os OA xs qi ys n0 nn o9 cap B Sg2 S2 → BW (d + 188) gm_X13_play 44 [some (aR q), some (aR tm), v2] [] S2 Q) →
    (∀ w rg S2, stAll t.length os f Sg1 = .inl w → StR S K F q pq dq la nn o9 Bm w rg S2 → Q rg S2) →
    BW (d + 188) gm_X13_play 8 [some (aR q), some (aR tm), v2] [] S1 Q := by
  intro f
  induction f with
  | zero =>
    intro Sg1 S1 v2 g2 hf h kk kr
    obtain ⟨la1, cap1, ⟨hc1, hc2⟩, ⟨h1, hwp, hdu⟩, hI1, hX1, hE1, hn1, hex1, hst1, htu1⟩ := id h
    obtain ⟨⟨x, g, du, pu, re⟩, ⟨h9, o91, fi, mk, nn1, rp⟩, st, tu, ov, ru⟩ := Sg1
    obtain rfl : re = [] := List.length_eq_zero_iff.mp (Nat.le_zero.mp hf)
    obtain ⟨hq, h79, h80, h81, h82, h90, har⟩ := id h1.1
    have h83 : Fi S1 83 q ((t.length - 0 : Nat) : Int) := h1.2.2.2.2.1.1.1
    have hal : (lsOf la1 (idsOfL t)).length = t.length := by rw [lsOf_len, ids_len]
    (repeat (first | (refine BW.pl rfl rfl ?_) | (refine CW.geti rfl rfl (by assumption) rfl rfl (by assumption) (fun _ => ?_)) | (refine CW.getr rfl rfl (by assumption) rfl rfl (by assumption) ?_)))
    refine CW.alenR rfl har (fun _ => ?_)
    rw [hal]
    refine BW.br rfl rfl (by first | omega | decide | (constructor <;> first | omega | decide)) (fun w => ?_) (fun w => by first | (exfalso; omega) | exact absurd w (by decide))
    exact kk _ S1 v2 g2 rfl h
  | succ f ih =>
    intro Sg1 S1 v2 g2 hf h kk kr
    obtain ⟨la1, cap1, ⟨hc1, hc2⟩, ⟨h1, hwp, hdu⟩, hI1, hX1, hE1, hn1, hex1, hst1, htu1⟩ := id h
    obtain ⟨⟨x, g, du, pu, re⟩, ⟨h9, o91, fi, mk, nn1, rp⟩, st, tu, ov, ru⟩ := Sg1
    obtain rfl : du = [] := hdu
    obtain ⟨hq, h79, h80, h81, h82, h90, har⟩ := id h1.1
    have h83 : Fi S1 83 q ((t.length - re.length : Nat) : Int) := h1.2.2.2.2.1.1.1
    have h88 : Fi S1 88 q (b2i ov) := h1.2.2.2.2.1.1.2.2.1
    have hrl : re.length ≤ t.length := h1.2.2.2.2.1.2.2
    have hal : (lsOf la1 (idsOfL t)).length = t.length := by rw [lsOf_len, ids_len]
    have hst1 : st ≤ 400 := hst1
    have hpu40 : pu.length ≤ 40 := hwp.2.2.2.2.2.2.2.2.1
    have htu1 : tu + re.length ≤ t.length := htu1
    (repeat (first | (refine BW.pl rfl rfl ?_) | (refine CW.geti rfl rfl (by assumption) rfl rfl (by assumption) (fun _ => ?_)) | (refine CW.getr rfl rfl (by assumption) rfl rfl (by assumption) ?_)))
    refine CW.alenR rfl har (fun _ => ?_)
    rw [hal]
    cases re with
    | nil =>
      have e0 : stAll t.length os (f + 1) ((x, g, [], pu, []), (h9, o91, fi, mk, nn1, rp), st, tu, ov, ru) = .inr ((x, g, [], pu, []), (h9, o91, fi, mk, nn1, rp), st, tu, ov, ru) := by
        show (if _ then _ else _) = _
        rw [if_pos (Or.inl rfl)]
      have e00 : t.length - ([] : List SLine).length = t.length := rfl
      rw [e00]
      refine BW.br rfl rfl (by first | omega | decide | (constructor <;> first | omega | decide)) (fun w => ?_) (fun w => by first | (exfalso; omega) | exact absurd w (by decide))
      exact kk _ S1 v2 g2 e0 h
    | cons z re =>
      have hzl : (z :: re).length = re.length + 1 := rfl
      refine BW.br rfl rfl (by first | omega | decide | (constructor <;> first | omega | decide)) (fun w => by first | (exfalso; omega) | exact absurd w (by decide)) (fun w => ?_)
      cases ov with
      | true =>
        have e0 : stAll t.length os (f + 1) ((x, g, [], pu, z :: re), (h9, o91, fi, mk, nn1, rp), st, tu, true, ru) = .inr ((x, g, [], pu, z :: re), (h9, o91, fi, mk, nn1, rp), st, tu, true, ru) := by
          show (if _ then _ else _) = _
          rw [if_pos (Or.inr rfl)]
        replace h88 : Fi S1 88 q 1 := h88
        (repeat (first | (refine BW.pl rfl rfl ?_) | (refine CW.geti rfl rfl (by assumption) rfl rfl (by assumption) (fun _ => ?_)) | (refine CW.getr rfl rfl (by assumption) rfl rfl (by assumption) ?_)))
        refine BW.br rfl rfl (by first | omega | decide | (constructor <;> first | omega | decide)) (fun w2 => ?_) (fun w2 => by first | (exfalso; omega) | exact absurd w2 (by decide))
        exact kk _ S1 v2 g2 e0 h
      | false =>
        replace h88 : Fi S1 88 q 0 := h88
        have eA : stAll t.length os (f + 1) ((x, g, [], pu, z :: re), (h9, o91, fi, mk, nn1, rp), st, tu, false, ru) = match stLin t.length os 402 0 ((z, false, [], pu, re), (h9, o91, fi, mk, nn1, false), st, tu + 1, false, ru) with
          | .inl w => .inl w
          | .inr S1 => stAll t.length os f S1 := stAll_succ (by intro e; cases e) rfl
        have h1 : StS S1 K la1 q oq ar pq dq t ((x, g, [], pu, z :: re), (h9, o91, fi, mk, nn1, rp), st, tu, false, ru) (pu ++ z :: re) cap1 (B + 240 * st + 30 * pu.length + 800 * (t.length - (z :: re).length) + 0) := h1
        (repeat (first | (refine BW.pl rfl rfl ?_) | (refine CW.geti rfl rfl (by assumption) rfl rfl (by assumption) (fun _ => ?_)) | (refine CW.getr rfl rfl (by assumption) rfl rfl (by assumption) ?_)))
        refine BW.br rfl rfl (by first | omega | decide | (constructor <;> first | omega | decide)) (fun w2 => by first | (exfalso; omega) | exact absurd w2 (by decide)) (fun w2 => ?_)
        (repeat (refine BW.pl rfl rfl ?_))
        refine CW.c1 rfl rfl (by first | exact Or.inl rfl | exact Or.inr (tagO (by assumption) (by rfl) (by rfl)) | exact Or.inr (tagO (AdrIs.ox (by assumption)) (by rfl) (by rfl)) | exact Or.inr (tagO (PatIs.ox (by assumption)) (by rfl) (by rfl)) | exact Or.inr (tagO (Or0.ox (by assumption)) (by rfl) (by rfl))) (by first | exact Or.inl (by decide) | exact Or.inr ⟨_, rfl, by assumption⟩) rfl (L_takeNext (d := d + 187) h1 hk h40 (by omega)) ?_
        rintro r S2 ⟨rfl, hW2, hX12⟩
        have hw2 : WS n0 (z, false, [], pu, re) (h9, o91, fi, mk, nn1, false) := WSP.take hwp
        have hI2 := hI1.xa hS hk hX12
        have hX2 : XS K F (WSt q pq dq) S S2 := hX1.tr hX12.up
        have hT2 : Ob S2 tm (oTm Mm) := hX2.ob hT ktm wtm (oNe rfl) rfl
        refine BW.pl rfl rfl ?_
        refine BW.stiV rfl rfl (by simp only [List.all_cons, List.all_nil, g2]; rfl) ?_
        generalize eB : B + 240 * st + 30 * pu.length + 800 * (t.length - (z :: re).length) = B1 at *
        have hf : re.length + 1 ≤ f + 1 := hf
        have hI0 : LnI S2 K F q oq ar pq dq la1 t os OA xs qi ys n0 ((z, false, [], pu, re), (h9, o91, fi, mk, nn1, false), st, tu + 1, false, ru) cap1 B1 ((z, false, [], pu, re), (h9, o91, fi, mk, nn1, false), st, tu + 1, false, ru) S2 := by
          refine ⟨la1, cap1, ⟨Nat.le_refl _, hc2⟩, ?_, hI2, XS.rf, LaE.rf, Int.le_refl _, ⟨[], by simp⟩, hst1, Nat.le_refl _, Nat.le_refl _, Nat.le_refl _, Nat.le_refl _⟩
          unfold StZ
          rw [if_neg (by show ¬ (false = true); decide), if_neg (by show ¬ (false = true); decide)]
          refine ⟨?_, hw2, Nat.zero_le _⟩
          have e : B1 + 240 * (st - st) + 30 * (pu.length - pu.length) + 750 * (re.length - re.length) + 0 = B1 + 0 := by omega
          show StW S2 K la1 q oq ar pq dq t ((z, false, [], pu, re), (h9, o91, fi, mk, nn1, false), st, tu + 1, false, ru) cap1 (B1 + 240 * (st - st) + 30 * (pu.length - pu.length) + 750 * (re.length - re.length) + 0)
          rw [e]
          exact hW2
        refine L_stLin (d := d) (Bm := Bm) hk h40 hS hos hol hT2 hM ktm wtm hn (by show tu + 1 + re.length ≤ 1000; omega) (by show B1 + 240 * (400 - st) + 2400 + 153000 + 750 * re.length ≤ Bm ∧ Bm ≤ 20000000; omega) 402 0 _ S2 (Nat.le_add_right _ _) (by omega) hI0 (fun Sg3 S3 j hs h3 => ?_) (fun w rg S3 hs h3 => kr w rg S3 (by rw [eA, stLin_w hs]) (StR.pre hX2 hE1 hn1 hex1 h3))
        -- the line's end
        obtain ⟨la3, cap3, ⟨hc3, hc4⟩, hZ3, hI3, hX3, hE3, hn3, hex3, hst3, hst4, hpu3, hre3, htu3⟩ := h3
        obtain ⟨⟨x3, g3, du3, pu3, re3⟩, ⟨h93, o93, fi3, mk3, nn3, rp3⟩, st3, tu3, ov3, ru3⟩ := Sg3
        have hst3 : st3 ≤ 400 := hst3
        have hst4 : st ≤ st3 := hst4
        have hpu3 : pu.length ≤ pu3.length := hpu3
        have hre3 : re3.length ≤ re.length := hre3
        have htu3 : tu3 + re3.length ≤ tu + 1 + re.length := htu3
        have hn3 : nn1 ≤ nn3 := hn3
        have hn1 : nn ≤ nn1 := hn1
        obtain ⟨ex1, hex1⟩ := hex1
        obtain ⟨ex3, hex3⟩ := hex3
        have hex1 : o91 = o9 ++ ex1 := hex1
        have hex3 : o93 = o91 ++ ex3 := hex3
        have hex13 : o93 = o9 ++ (ex1 ++ ex3) := by rw [hex3, hex1, List.append_assoc]
        have hE13 : LaE la la3 nn := hE1.tr hE3 hn1
        have hX13 : XS K F (WSt q pq dq) S S3 := hX2.tr hX3
        cases ov3 with
        | true =>
          unfold StZ at hZ3
          rw [if_pos rfl, if_pos rfl] at hZ3
          obtain ⟨h4, hwp3, hdu3⟩ := hZ3
          have h4 : StS S3 K la3 q oq ar pq dq t ((x3, g3, du3, pu3, re3), (h93, o93, fi3, mk3, nn3, rp3), st3, tu3, true, ru3) (pu3 ++ re3) cap3 (B1 + 240 * (st3 - st) + 30 * (pu3.length - pu.length) + 750 * (re.length - re3.length) + 800) := h4
          have hq3 := h4.1.1
          have h883 : Fi S3 88 q 1 := h4.2.2.2.2.1.1.2.2.1
          have hpu340 : pu3.length ≤ 40 := hwp3.2.2.2.2.2.2.2.2.1
          have e3 : stAll t.length os (f + 1) ((x, g, [], pu, z :: re), (h9, o91, fi, mk, nn1, rp), st, tu, false, ru) = stAll t.length os f ((x3, g3, du3, pu3, re3), (h93, o93, fi3, mk3, nn3, rp3), st3, tu3, true, ru3) := by rw [eA, stLin_0 hs rfl]
          (repeat (first | (refine BW.pl rfl rfl ?_) | (refine CW.geti rfl rfl (by assumption) rfl rfl (by assumption) (fun _ => ?_)) | (refine CW.getr rfl rfl (by assumption) rfl rfl (by assumption) ?_)))
          refine BW.br rfl rfl (by first | omega | decide | (constructor <;> first | omega | decide)) (fun w3 => ?_) (fun w3 => by first | (exfalso; omega) | exact absurd w3 (by decide))
          (iterate 1 (refine BW.pl rfl rfl ?_))
          refine ih _ S3 _ rfl (by show re3.length ≤ f; omega) ⟨la3, cap3, ⟨by omega, hc4⟩, ⟨?_, hwp3, hdu3⟩, hI3, hX13, hE13, by show nn ≤ nn3; omega, ⟨_, hex13⟩, hst3, by show tu3 + re3.length ≤ t.length; omega⟩ (fun Sg5 S5 v5 gg5 e5 h5 => kk Sg5 S5 v5 gg5 (by rw [e3]; exact e5) h5) (fun w rg S5 e5 h5 => kr w rg S5 (by rw [e3]; exact e5) h5)
          exact h4.le (by show _ ≤ B + 240 * st3 + 30 * pu3.length + 800 * (t.length - re3.length) + 800; omega) (by show B + 240 * st3 + 30 * pu3.length + 800 * (t.length - re3.length) + 800 + 6 * cap3 ≤ 20000000; omega)
        | false =>
          unfold StZ at hZ3
          rw [if_neg (by show ¬ (false = true); decide), if_neg (by show ¬ (false = true); decide)] at hZ3
          obtain ⟨h4, hw3, hdu3⟩ := hZ3
          have h4 : StW S3 K la3 q oq ar pq dq t ((x3, g3, du3, pu3, re3), (h93, o93, fi3, mk3, nn3, rp3), st3, tu3, false, ru3) cap3 (B1 + 240 * (st3 - st) + 30 * (pu3.length - pu.length) + 750 * (re.length - re3.length) + 0) := h4
          have hw3 : WS n0 (x3, g3, du3, pu3, re3) (h93, o93, fi3, mk3, nn3, rp3) := hw3
          have hq3 := h4.1.1.1
          have h883 : Fi S3 88 q 0 := h4.1.2.2.2.2.1.1.2.2.1
          have hpu340 : pu3.length ≤ 40 := hw3.2.2.2.2.2.2.2.2.1
          have eP : stPutS ((x3, g3, du3, pu3, re3), (h93, o93, fi3, mk3, nn3, rp3), st3, tu3, false, ru3) = match stPutWork (x3, g3, du3, pu3, re3) (h93, o93, fi3, mk3, nn3, rp3) with
            | .inl w => .inl w
            | .inr (W1, B1) => .inr (W1, B1, st3, tu3, false, ru3) := rfl
          have eA2 := eA
          rw [stLin_1 hs rfl, eP] at eA2
          (repeat (first | (refine BW.pl rfl rfl ?_) | (refine CW.geti rfl rfl (by assumption) rfl rfl (by assumption) (fun _ => ?_)) | (refine CW.getr rfl rfl (by assumption) rfl rfl (by assumption) ?_)))
          refine BW.br rfl rfl (by first | omega | decide | (constructor <;> first | omega | decide)) (fun w3 => by first | (exfalso; omega) | exact absurd w3 (by decide)) (fun w3 => ?_)
          (repeat (refine BW.pl rfl rfl ?_))
          refine CW.x1 rfl rfl (by first | exact Or.inl rfl | exact Or.inr (tagO (by assumption) (by rfl) (by rfl)) | exact Or.inr (tagO (AdrIs.ox (by assumption)) (by rfl) (by rfl)) | exact Or.inr (tagO (PatIs.ox (by assumption)) (by rfl) (by rfl)) | exact Or.inr (tagO (Or0.ox (by assumption)) (by rfl) (by rfl))) (by first | exact Or.inl (by decide) | exact Or.inr ⟨_, rfl, by assumption⟩) rfl rfl (L_putWork (d := d + 182) (Bm := Bm) h4 hk hw3 hc4 hn (by omega)) ?_ ?_
          · intro r S4 h5
            cases hs4 : stPutWork (x3, g3, du3, pu3, re3) (h93, o93, fi3, mk3, nn3, rp3) with
            | inl w =>
              rw [hs4] at h5
              obtain ⟨_, _, _, _, _, _, _, _, _, _, q9, e9, _⟩ := h5
              cases e9
            | inr z4 =>
              obtain ⟨W1, G1⟩ := z4
              rw [hs4] at h5
              obtain ⟨hwp4, hre4⟩ := WS.wsp hw3 hs4
              obtain ⟨pu4, n4, rfl, rfl, hpl4⟩ := stPutWork_out hs4
              obtain ⟨e5, la4, h5, hX4, hE4, hn4, ex4, hex4⟩ := h5
              cases e5
              have h5 : StS S4 K la4 q oq ar pq dq t ((x3, g3, [], pu4, re3), (h93, o93, fi3, mk3, n4, rp3), st3, tu3, false, ru3) (pu4 ++ re3) cap3 (B1 + 240 * (st3 - st) + 30 * (pu3.length - pu.length) + 750 * (re.length - re3.length) + 0 + 16 + 30 * (pu4.length - pu3.length)) := h5
              have hpu440 : pu4.length ≤ 40 := hwp4.2.2.2.2.2.2.2.2.1
              have hn4 : nn3 ≤ n4 := hn4
              rw [hs4] at eA2
              dsimp only at eA2
              (iterate 1 (refine BW.pl rfl rfl ?_))
              refine ih ((x3, g3, [], pu4, re3), (h93, o93, fi3, mk3, n4, rp3), st3, tu3, false, ru3) S4 _ rfl (by show re3.length ≤ f; omega) ⟨la4, cap3, ⟨by omega, hc4⟩, ⟨?_, hwp4, rfl⟩, hI3.xa hS hk hX4, hX13.tr hX4.up, hE13.tr hE4 (by omega), by show nn ≤ n4; omega, ⟨_, hex13⟩, hst3, by show tu3 + re3.length ≤ t.length; omega⟩ (fun Sg5 S5 v5 gg5 e5 h5 => kk Sg5 S5 v5 gg5 (by rw [eA2]; exact e5) h5) (fun w rg S5 e5 h5 => kr w rg S5 (by rw [eA2]; exact e5) h5)
              exact h5.le (by show _ ≤ B + 240 * st3 + 30 * pu4.length + 800 * (t.length - re3.length) + 0; omega) (by show B + 240 * st3 + 30 * pu4.length + 800 * (t.length - re3.length) + 0 + 6 * cap3 ≤ 20000000; omega)
          · intro E q9 S4 h5
            cases hs4 : stPutWork (x3, g3, du3, pu3, re3) (h93, o93, fi3, mk3, nn3, rp3) with
            | inl w =>
              rw [hs4] at h5 eA2
              exact kr w _ S4 eA2 (StR.pre hX13 hE13 (by omega) ⟨_, hex13⟩ h5)
            | inr z4 =>
              rw [hs4] at h5
              cases h5.1
end PL
