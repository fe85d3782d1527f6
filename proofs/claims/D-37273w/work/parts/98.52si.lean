-- C
set_option maxRecDepth 100000
/-! LINEORDERS: a stream: doInner, doOne -/
/-- what inner orders answer -/
def SiX (S : BS) (K : Nat → Nat) (F : Nat → Prop) (q oq ar pq dq : Nat) (la : Int → Nat) (t : List SLine) (os : List SOrd) (OA : Nat → Nat → Nat) (xs : List (Option Nat)) (qi : Nat → Nat) (ys : Nat → List (Option Nat)) (n0 : Int) (Sg0 : SS) (cap B Bm : Nat) (R : Nat ⊕ SS) (rg : GO) (S' : BS) : Prop := match R with
  | .inl w => StR S K F q pq dq la Sg0.2.1.2.2.2.2.1 Sg0.2.1.2.1 Bm w rg S'
  | .inr Sg1 => rg = .inl none ∧ ∃ la1 cap1, (cap ≤ cap1 ∧ cap1 ≤ 24400) ∧ StW S' K la1 q oq ar pq dq t Sg1 cap1 (B + 240 * (Sg1.2.2.1 - Sg0.2.2.1) + 30 * (Sg1.1.2.2.2.1.length - Sg0.1.2.2.2.1.length)) ∧ OsI S' F t.length os Sg1.2.2.2.2.2 OA xs qi ys oq ∧ XS K F (WSt q pq dq) S S' ∧ LaE la la1 Sg0.2.1.2.2.2.2.1 ∧ Sg0.2.1.2.2.2.2.1 ≤ Sg1.2.1.2.2.2.2.1 ∧ (∃ ex, Sg1.2.1.2.1 = Sg0.2.1.2.1 ++ ex) ∧ WS n0 Sg1.1 Sg1.2.1 ∧ Sg1.1.2.2.1.length ≤ 40 * Sg1.2.2.1 ∧ Sg1.2.2.1 ≤ 400 ∧ Sg0.2.2.1 ≤ Sg1.2.2.1 ∧ Sg0.1.2.2.2.1.length ≤ Sg1.1.2.2.2.1.length ∧ Sg1.2.2.2.1 = Sg0.2.2.2.1 ∧ Sg1.2.2.2.2.1 = Sg0.2.2.2.2.1
section SI
variable {d n m q oq ar pq dq a b f y cap cap' cap1 c i k B B' B2 st tu p Bm : Nat} {S S' S1 S2 : BS} {K : Nat → Nat} {V F : Nat → Prop} {o : SOrd} {la la1 : Int → Nat} {t pu re pu1 re1 : List SLine} {x z x1 : SLine} {g g1 ov rp run bb : Bool} {du rows du1 du' : List (List Int)} {W : WG} {G G1 : BG} {ru : Nat → Nat → RG} {r : Option Nat} {v nn n0 : Int} {h9 o9 : List (List Int)} {fi : Nat → List (List Int)} {mk : Nat → Option Int} {od : SOrd0} {w : Nat} {rg : GO} {xs : List (Option Nat)} {os : List SOrd} {OA : Nat → Nat → Nat} {qi : Nat → Nat} {ys : Nat → List (Option Nat)} {Sg Sg0 Sg1 : SS} {R : Nat ⊕ SS} {l l1 l2 : List Int}
theorem ord9_i {i : Nat} : ord9 os k (i + 1) = (os.getD k noOrd).2.getD i noOrd0 := by
  unfold ord9
  rw [if_neg (Nat.succ_ne_zero i)]
  rfl
theorem ord9_0 : ord9 os k 0 = (os.getD k noOrd).1 := rfl
theorem WS.x2 (hw : WS n0 (x, g, du, pu, re) (h9, o9, fi, mk, nn, rp)) : re.length ≤ 40 ∧ nn ≤ n0 + 40 := by
  obtain ⟨_, _, p3, p4, p5⟩ := hw.pun
  exact ⟨p5, by omega⟩
theorem stAct_out {L : Nat} {wq : Bool × Option SAdr × Option SAdr} {inner : Bool} (hw : WS n0 (x, false, du, pu, re) (h9, o9, fi, mk, nn, rp)) (hp : pAct inner wq l1 = .inr (l2, od)) (h48 : ¬ hd l2 = 48) (hout : isOut (oAct od) = false) (hb : stBar od = false) (hL : L < 900) (hr : (oRows od).length ≤ 40) (hs : stAct L od run (x, false, du, pu, re) (h9, o9, fi, mk, nn, rp) = .inr (W, G)) : WS n0 W G := by
  obtain ⟨g1, g2, g3, g4, g5⟩ := pAct_out hp
  have e := g2.2.2.2
  have hb' := stBar_out hb
  rw [e] at hb' hout
  exact (wf_stAct hw e g5 h48 hout hb' hL (fun _ => by omega) hs).1
theorem SiX.of (h : StW S' K la1 q oq ar pq dq t Sg1 cap1 B2) (hc : cap ≤ cap1 ∧ cap1 ≤ 24400) (hB2 : B2 ≤ B + 240 * (Sg1.2.2.1 - Sg0.2.2.1) + 30 * (Sg1.1.2.2.2.1.length - Sg0.1.2.2.2.1.length)) (hBm : B + 240 * (Sg1.2.2.1 - Sg0.2.2.1) + 30 * (Sg1.1.2.2.2.1.length - Sg0.1.2.2.2.1.length) + 6 * cap1 ≤ 20000000) (h2 : OsI S' F t.length os Sg1.2.2.2.2.2 OA xs qi ys oq) (h3 : XS K F (WSt q pq dq) S S') (h4 : LaE la la1 Sg0.2.1.2.2.2.2.1) (h5 : Sg0.2.1.2.2.2.2.1 ≤ Sg1.2.1.2.2.2.2.1) (h6 : ∃ ex, Sg1.2.1.2.1 = Sg0.2.1.2.1 ++ ex) (h7 : WS n0 Sg1.1 Sg1.2.1) (h8 : Sg1.1.2.2.1.length ≤ 40 * Sg1.2.2.1) (h9' : Sg1.2.2.1 ≤ 400) (h10 : Sg0.2.2.1 ≤ Sg1.2.2.1) (h11 : Sg0.1.2.2.2.1.length ≤ Sg1.1.2.2.2.1.length) (h12 : Sg1.2.2.2.1 = Sg0.2.2.2.1) (h13 : Sg1.2.2.2.2.1 = Sg0.2.2.2.2.1) : SiX S K F q oq ar pq dq la t os OA xs qi ys n0 Sg0 cap B Bm (.inr Sg1) (.inl none) S' := by
  obtain ⟨W1, G1, st1, tu1, ov1, ru1⟩ := Sg1
  exact ⟨rfl, la1, cap1, hc, h.le hB2 hBm, h2, h3, h4, h5, h6, h7, h8, h9', h10, h11, h12, h13⟩
/-- one order that is no group: come to, and done if it holds -/
theorem stDo_S (hod : OdK od) (hodP : OdP od) (hout : isOut (oAct od) = false) {wq : Bool × Option SAdr × Option SAdr} {inner : Bool} (hp : pAct inner wq l1 = .inr (l2, od)) (h48 : ¬ hd l2 = 48) (hW : StW S K la q oq ar pq dq t ((x, false, du, pu, re), (h9, o9, fi, mk, nn, rp), st, tu, ov, ru) cap B) (hk : StK K F q ar pq dq) (hw : WS n0 (x, false, du, pu, re) (h9, o9, fi, mk, nn, rp)) (h40 : t.length ≤ 40) (hI : OsI S F t.length os ru OA xs qi ys oq) (hS : OsS F oq os OA xs qi ys) (hv : kyG os k i) (eod : ord9 os k i = od) (hhold : oFst od ≠ none → oSnd od ≠ none → (ru k i).2.1 = true) (h12 : oFst od = none → oSnd od = none) (hb : stBar od = false) (hcap : cap ≤ 24400) (hdu : du.length + 40 ≤ 40 * st) (hst : st ≤ 400) (hn : n0 < 1900000) (hBm : B + 150500 ≤ Bm ∧ Bm ≤ 20000000) : BM (d + 184) gk_X13_doPlain [aR q, aR (OA k i)] S (fun rg S' => match stDo t.length k i od ((x, false, du, pu, re), (h9, o9, fi, mk, nn, rp), st, tu, ov, ru) with
    | .inl w => StR S K F q pq dq la nn o9 Bm w rg S'
    | .inr Sg1 => rg = .inl none ∧ ∃ la1 cap1, (cap ≤ cap1 ∧ cap1 ≤ 24400) ∧ StW S' K la1 q oq ar pq dq t Sg1 cap1 (B + 240 + 30 * (Sg1.1.2.2.2.1.length - pu.length)) ∧ OsI S' F t.length os Sg1.2.2.2.2.2 OA xs qi ys oq ∧ XS K F (WSt q pq dq) S S' ∧ LaE la la1 nn ∧ nn ≤ Sg1.2.1.2.2.2.2.1 ∧ (∃ ex, Sg1.2.1.2.1 = o9 ++ ex) ∧ WS n0 Sg1.1 Sg1.2.1 ∧ Sg1.1.2.2.1.length ≤ 40 * Sg1.2.2.1 ∧ pu.length ≤ Sg1.1.2.2.2.1.length ∧ Sg1.2.2 = (st, tu, ov, ru)) := by
  obtain ⟨hO, hR⟩ := hI.2.2 k i hv
  rw [eod] at hO hR
  have h61 : oSnd od ≠ none → Fi S 61 (OA k i) (b2i (!(ru k i).2.2)) := fun h2 => hR.2.2.2.2 (hhold (fun z => h2 (h12 z)) h2)
  have hC : DpC S K F q oq ar pq dq la t x du pu re (h9, o9, fi, mk, nn, rp) st tu ov ru cap B Bm (OA k i) od n0 := ⟨hW, hk, hw, h40, hO, hod, ⟨hcap, by omega⟩, hn, by omega, hBm.2⟩
  refine BM.mono (L_stAct (d := d) (run := (ru k i).2.2) hC (acP_st hodP.1 hb) h61 hodP.2.2.1 hodP.2.2.2) (fun rg S' h => ?_)
  have eD : stDo t.length k i od ((x, false, du, pu, re), (h9, o9, fi, mk, nn, rp), st, tu, ov, ru) = match stAct t.length od (ru k i).2.2 (x, false, du, pu, re) (h9, o9, fi, mk, nn, rp) with
    | .inl w => .inl w
    | .inr (W1, B1) => .inr (W1, B1, st, tu, ov, ru) := rfl
  rw [eD]
  have hwf := fun W1 G1 (e : stAct t.length od (ru k i).2.2 (x, false, du, pu, re) (h9, o9, fi, mk, nn, rp) = .inr (W1, G1)) => stAct_out hw hp h48 hout hb (show t.length < 900 by omega) hod.2.1.1 e
  have hdue := fun W1 G1 (e : stAct t.length od (ru k i).2.2 (x, false, du, pu, re) (h9, o9, fi, mk, nn, rp) = .inr (W1, G1)) => stAct_due (B := (h9, o9, fi, mk, nn, rp)) hw.hh.1 (fun k => (hw.ff k).1) hod.2.1.1 e
  have hpu := fun W1 G1 (e : stAct t.length od (ru k i).2.2 (x, false, du, pu, re) (h9, o9, fi, mk, nn, rp) = .inr (W1, G1)) => stAct_pu e
  revert h hwf hdue hpu
  cases stAct t.length od (ru k i).2.2 (x, false, du, pu, re) (h9, o9, fi, mk, nn, rp) with
  | inl w => exact fun h _ _ _ => h
  | inr z =>
    obtain ⟨W1, G1⟩ := z
    rintro ⟨e, la1, cap1, hc1, g1, g2, g3, g4, g5⟩ hwf hdue hpu
    have hd := hdue W1 G1 rfl
    have hd : W1.2.2.1.length ≤ du.length + 40 := hd
    exact ⟨e, la1, cap1, hc1, g1, hI.xa hS hk g2, g2.up, g3, g4, g5, hwf W1 G1 rfl, by show W1.2.2.1.length ≤ 40 * st; omega, hpu W1 G1 rfl, rfl⟩
end SI
