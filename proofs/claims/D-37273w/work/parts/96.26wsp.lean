set_option maxRecDepth 100000
/-! the twin's stream between two lines -/
/-- in order when the work is put -/
def WSP (n0 : Int) (W : WG) (B : BG) : Prop := WS n0 (W.1, true, [], W.2.2.2.1, W.2.2.2.2) B
/-- a stream whose work is put -/
def TSP (σ : TS) (s : List Int) (t : List SLine) (os : List SOrd) (n0 : Int) (S : SS) : Prop := TCn σ s os S.2.2.1 S.2.2.2.1 S.2.2.2.2.1 S.2.2.2.2.2 ∧ TWP σ t S.1 S.2.1 ∧ WSP n0 S.1 S.2.1 ∧ S.2.2.2.1 + S.1.2.2.2.2.length ≤ t.length
def SpQ (σ : TS) (s : List Int) (t : List SLine) (os : List SOrd) (n0 : Int) (R : Nat ⊕ SS) (r : Option Int) (τ : TS) : Prop := (TF σ τ ∧ (τ.1 64) = (σ.1 64)) ∧ match R with
  | .inl w => r = some (w : Int) ∧ 1 ≤ w ∧ w ≤ 8
  | .inr S1 => r = some 0 ∧ TSP τ s t os n0 S1
section TWsp
variable {d : Nat} {σ τ υ : TS} {s l l1 l2 lx lb : List Int} {t pu re : List SLine} {du : List (List Int)} {x y : SLine} {g ov : Bool} {W W1 : WG} {B B1 : BG} {fs as : List Nat} {os : List SOrd} {n n0 : Int} {od : SOrd0} {o' : SOrd} {S : SS} {st tu k i : Nat} {ru : Nat → Nat → RG} {w : Bool × Option SAdr × Option SAdr} {h o : List (List Int)} {fi : Nat → List (List Int)} {m : Nat → Option Int} {rp run : Bool} {L : Nat}
theorem WS.same {W2 : WG} (hw : WS n0 W B) (h1 : allL W2 = allL W) (h2 : ∀ r ∈ W2.2.2.1, RowOk r) (h3 : W.2.2.2.1.length ≤ W2.2.2.2.1.length) (h4 : W2.2.2.2.1.length ≤ 40 ∧ W2.2.2.2.2.length ≤ 40) : WS n0 W2 B := by
  obtain ⟨a1, a2, a3, a4, a5, a6, a7, a8, a9, a10⟩ := hw
  refine ⟨by rw [h1]; exact a1, by rw [h1]; exact a2, h2, by rw [h1]; exact a4, ⟨a5.1, a5.2.1, ?_⟩, a6, a7, a8, h4.1, h4.2⟩
  have := a5.2.2
  omega
theorem WS.wsp (hw : WS n0 (x, g, du, pu, re) (h, o, fi, m, n, rp)) (hs : stPutWork (x, g, du, pu, re) (h, o, fi, m, n, rp) = .inr (W1, B1)) : WSP n0 W1 B1 ∧ W1.2.2.2.2 = re := by
  obtain ⟨a1, a2, a3, a4, a5, -, -, -, a6, a7⟩ := hw.tt
  unfold stPutWork at hs
  dsimp only at hs
  split at hs
  · cases hs
  rename_i hng
  cases hq : stPuts (x, g, [], (if g = true then pu else pu ++ [x]), re) (h, o, fi, m, n, rp) du with
  | inl w => rw [hq] at hs; cases hs
  | inr q =>
    obtain ⟨W2, B2⟩ := q
    rw [hq] at hs
    cases hs
    have key : ∀ pu1, (if g = true then pu else pu ++ [x]) = pu1 → WS n0 (x, true, [], pu1, re) (h, o, fi, m, n, rp) := by
      intro pu1 e
      subst e
      cases g with
      | true => exact hw.same rfl (fun r hr => by cases hr) (Nat.le_refl _) ⟨a6, a7⟩
      | false =>
        have h40 : ¬ pu.length = 40 := fun z => hng ⟨rfl, z⟩
        refine hw.same ?_ (fun r hr => by cases hr) (by show pu.length ≤ (pu ++ [x]).length; simp) ⟨by show (pu ++ [x]).length ≤ 40; simp; omega, a7⟩
        show (pu ++ [x]) ++ [] ++ re = pu ++ [x] ++ re
        rw [List.append_nil]
    have key := key _ rfl
    generalize (if g = true then pu else pu ++ [x]) = pu1 at hq key
    unfold stPuts at hq
    dsimp only at hq
    split at hq
    · cases hq
    · rename_i hc
      cases hq
      exact ⟨key.puts1 a3 (by omega), rfl⟩
theorem WSP.take (hw : WSP n0 (x, g, du, pu, y :: re) (h, o, fi, m, n, rp)) : WS n0 (y, false, [], pu, re) (h, o, fi, m, n, false) := by
  have hw : WS n0 (x, true, [], pu, y :: re) (h, o, fi, m, n, rp) := hw
  obtain ⟨a1, a2, a3, a4, a5, -, -, -, a6, a7⟩ := hw.tt
  have e : allL (y, false, [], pu, re) = allL (x, true, [], pu, y :: re) := by
    show pu ++ [y] ++ re = pu ++ [] ++ (y :: re)
    simp
  have hw2 : WS n0 (y, false, [], pu, re) (h, o, fi, m, n, rp) := hw.same e (fun r hr => by cases hr) (Nat.le_refl _) ⟨a6, by simp at a7; show re.length ≤ 40; omega⟩
  exact hw2
theorem WSP.rest (hw : WSP n0 (x, g, du, pu, re) (h, o, fi, m, n, rp)) (h40 : pu.length + re.length ≤ 40) : WSP n0 (x, g, du, pu ++ re, []) (h, o, fi, m, n, rp) := by
  have hw : WS n0 (x, true, [], pu, re) (h, o, fi, m, n, rp) := hw
  refine hw.same ?_ (fun r hr => by cases hr) (by show pu.length ≤ (pu ++ re).length; simp) ⟨by show (pu ++ re).length ≤ 40; simp; omega, Nat.zero_le _⟩
  show (pu ++ re) ++ [] ++ [] = pu ++ [] ++ re
  simp
theorem stPuts_inl {w : Nat} {rs : List (List Int)} (hs : stPuts W B rs = .inl w) : w = 4 := by
  obtain ⟨x, g, du, pu, re⟩ := W
  obtain ⟨h, o, fi, m, n, rp⟩ := B
  unfold stPuts at hs
  dsimp only at hs
  split at hs
  · cases hs; rfl
  · cases hs
theorem stPutWork_inl {w : Nat} (hs : stPutWork W B = .inl w) : w = 4 := by
  obtain ⟨x, g, du, pu, re⟩ := W
  unfold stPutWork at hs
  dsimp only at hs
  split at hs
  · cases hs; rfl
  · split at hs
    · rename_i hq
      cases hs
      exact stPuts_inl hq
    · cases hs
theorem T_putS (hT : TSS σ s t os n0 S) (hn0 : n0 < 890000) : TM (d + 4) tk_putWork [.inr 0] σ (SpQ σ s t os n0 (stPutS S)) := by
  obtain ⟨⟨x, g, du, pu, re⟩, ⟨h, o, fi, m, n, rp⟩, st, tu, ov, ru⟩ := S
  obtain ⟨hC, hB, hw, hdu, htu, hre⟩ := hT
  have hdu : du.length ≤ 1000 * st := hdu
  have hst : st ≤ 400 := hC.2.2.2.2.1.2
  have hre : tu + re.length ≤ t.length := hre
  refine (T_putWork hB hw hn0 (by omega)).mono (Nat.le_refl _) ?_
  rintro r τ ⟨⟨hf, hsm⟩, hq⟩
  have hF : TF σ τ := ⟨hf.mono (by decide) (by decide), fun j hj => hsm j (fun z => hj (by omega)), fun g => g.fr hf (by decide) (by decide)⟩
  refine ⟨⟨hF, hf.1 64 (by decide)⟩, ?_⟩
  have hC1 := hC.fr hf (by decide) (by decide)
  unfold stPutS
  dsimp only
  revert hq
  cases hA : stPutWork (x, g, du, pu, re) (h, o, fi, m, n, rp) with
  | inl w =>
    intro hq
    have := stPutWork_inl hA
    exact ⟨hq, by omega, by omega⟩
  | inr q =>
    obtain ⟨W1, B1⟩ := q
    rintro ⟨h1, h2⟩
    obtain ⟨w1, w2⟩ := hw.wsp hA
    refine ⟨h1, hC1, h2, w1, ?_⟩
    show tu + W1.2.2.2.2.length ≤ t.length
    rw [w2]
    exact hre
theorem T_takeS (hT : TSP σ s t os n0 ((x, g, du, pu, y :: re), (h, o, fi, m, n, rp), st, tu, ov, ru)) (hn0 : n0 < 890000) : TM (d + 2) tk_takeNext [.inr 0] σ (fun r τ => r = none ∧ (TF σ τ ∧ (τ.1 64) = (σ.1 64)) ∧ TSS τ s t os n0 (stTake ((x, g, du, pu, y :: re), (h, o, fi, m, n, rp), st, tu, ov, ru))) := by
  obtain ⟨hC, hB, hw, hre⟩ := hT
  have hw' : WS n0 (x, true, [], pu, y :: re) (h, o, fi, m, n, rp) := hw
  have hC' := hC
  obtain ⟨hs, hg, hP, hR, ⟨hc, hcR⟩, htn, hov⟩ := hC'
  have hre : tu + (re.length + 1) ≤ t.length := hre
  have h40 := hB.1.1.2.1
  have hn : 0 ≤ n ∧ n ≤ n0 + 40 := hw'.nn
  have hy : 0 ≤ y.1 ∧ y.1 < n := (hw'.2.1 y (by show y ∈ pu ++ [] ++ (y :: re); simp)).1
  have htn : σ.1 69 = tu := htn
  refine (T_takeNext (tu := tu) hB (by omega) htn (by omega)).mono (Nat.le_refl _) ?_
  rintro r τ ⟨h1, hf, hsm, hB1, htu1⟩
  have hF : TF σ τ := ⟨hf.mono (by decide) (by decide), fun j hj => hsm j (fun z => hj (by omega)), fun g => g.fr hf (by decide) (by decide)⟩
  refine ⟨h1, ⟨hF, hf.1 64 (by decide)⟩, ⟨hs.fr hf (by decide) (by decide), hg.fr hf (by decide) (by decide), hP, fun k i hv => ⟨(hR k i hv).1.fr hf (by decide), ?_⟩, ⟨(hf.1 73 (by decide)).trans hc, hcR⟩, ?_, (hf.1 71 (by decide)).trans hov⟩, hB1, WSP.take hw, Nat.zero_le _, Nat.succ_pos _, ?_⟩
  · have := (hR k i hv).2
    show (ru k i).1 ≤ tu + 1
    have this : (ru k i).1 ≤ tu := this
    omega
  · show τ.1 69 = ((tu + 1 : Nat) : Int)
    omega
  · show tu + 1 + re.length ≤ t.length
    omega
theorem T_restS (hT : TSP σ s t os n0 S) (hn0 : n0 < 890000) : TM (d + 3) tk_putRest [.inr 0] σ (SpQ σ s t os n0 (stRest S)) := by
  obtain ⟨⟨x, g, du, pu, re⟩, ⟨h, o, fi, m, n, rp⟩, st, tu, ov, ru⟩ := S
  obtain ⟨hC, ⟨hRes, hPut, hTR, hMrk, hnid, hrp⟩, hw, hre⟩ := hT
  have hw' : WS n0 (x, true, [], pu, re) (h, o, fi, m, n, rp) := hw
  have hn : 0 ≤ n ∧ n ≤ n0 + 40 := hw'.nn
  have hre : tu + re.length ≤ t.length := hre
  refine (T_putRest0 hRes hPut (fun q hq => ?_)).mono (Nat.le_refl _) ?_
  · have hy : 0 ≤ q.1 ∧ q.1 < n := (hw'.2.1 q (by show q ∈ pu ++ [] ++ re; simp; exact Or.inr hq)).1
    omega
  rintro r τ ⟨⟨hf, hsm⟩, hq⟩
  have hF : TF σ τ := ⟨hf.mono (by decide) (by decide), fun j hj => hsm j (fun z => hj (by omega)), fun g => g.fr hf (by decide) (by decide)⟩
  refine ⟨⟨hF, hf.1 64 (by decide)⟩, ?_⟩
  have hC1 := hC.fr hf (by decide) (by decide)
  unfold stRest
  dsimp only
  by_cases hc : 40 < pu.length + re.length
  · rw [if_pos hc] at hq ⊢
    exact ⟨hq, by decide, by decide⟩
  · rw [if_neg hc] at hq ⊢
    obtain ⟨h1, h2, h3⟩ := hq
    refine ⟨h1, hC1, ⟨h2, h3, hTR.put hf (fun j hj => hsm j (fun z => hj (by omega))) (by decide) (by decide), ?_, (hf.1 17 (by decide)).trans hnid, (hf.1 44 (by decide)).trans hrp⟩, WSP.rest hw (by omega), ?_⟩
    · have e : idsOfL (PLn (x, g, du, pu ++ re, [])) = idsOfL (PLn (x, g, du, pu, re)) := by
        show idsOfL ((pu ++ re) ++ []) = idsOfL (pu ++ re)
        rw [List.append_nil]
      show MrkIs τ m (idsOfL (PLn (x, g, du, pu ++ re, []))) n
      rw [e]
      exact hMrk.same (hf.2 10 (by decide))
    · show tu + 0 ≤ t.length
      omega
end TWsp
