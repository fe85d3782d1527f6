set_option maxRecDepth 100000
/-! TREEMAP: deleteEntry, remove -/
section Tz
variable {d : Nat} {g : GH} {t : Nat} {M : Int → Option Nat} {N : Int → Nat} {K : Int → Prop} {ky : Int → Int} {vl : Int → Nat} {lo hi : Int → Int} {L R P : Int → Option Int} {rt : Option Int}
theorem Kd_no {x : Int} : Kd (upM M x none) = fun k => Kd M k ∧ k ≠ x := by
  funext k
  apply propext
  unfold Kd upM
  by_cases c : k = x
  · rw [if_pos c]; exact ⟨fun z => absurd rfl z, fun z => absurd c z.2⟩
  · rw [if_neg c]; exact ⟨fun z => ⟨z, c⟩, fun z => z.1⟩
/-- another key and value for x -/
theorem TLk.pay (h : TLk g t K N ky vl L R P rt) {x s : Int} {v : Nat} (kx : K x) (hs : 0 ≤ s ∧ s < 128) (hv : gokO g (some v) = true) :
    TLk (gsfr (gsfr g 128 (N x) (some (s + 128).toNat)) 129 (N x) (some v)) t K N (fun a => if a = x then s else ky a) (fun a => if a = x then v else vl a) L R P rt := by
  obtain ⟨a1, a2, a3, a4, a5, a6, a7⟩ := id h
  refine ⟨a1, ?_, ?_, fun k hk => ?_, a5, fun k hk => ?_, fun k hk => ?_⟩
  · simp only [gfr_sfr, gfr_sfi, gfi_sfi, gfi_sfr, Nat.reduceEqDiff, false_and, true_and, and_true, reduceIte]
    exact a2
  · simp only [gfr_sfr, gfr_sfi, gfi_sfi, gfi_sfr, Nat.reduceEqDiff, false_and, true_and, and_true, reduceIte]
    exact a3
  · obtain ⟨b1, b2, b3, b4, b5, b6⟩ := a4 k hk
    refine ⟨b1, ?_, ?_, ?_, ?_, ?_⟩
    · by_cases c : k = x
      · subst c
        simp only [gfr_sfr, gfr_sfi, gfi_sfi, gfi_sfr, Nat.reduceEqDiff, false_and, true_and, and_true, reduceIte]
      · have hne : N k ≠ N x := fun z => c (a5 k x hk kx z)
        simp only [gfr_sfr, gfr_sfi, gfi_sfi, gfi_sfr, Nat.reduceEqDiff, false_and, true_and, and_true, reduceIte, hne, c]
        exact b2
    · by_cases c : k = x
      · subst c
        simp only [gfr_sfr, gfr_sfi, gfi_sfi, gfi_sfr, Nat.reduceEqDiff, false_and, true_and, and_true, reduceIte]
      · have hne : N k ≠ N x := fun z => c (a5 k x hk kx z)
        simp only [gfr_sfr, gfr_sfi, gfi_sfi, gfi_sfr, Nat.reduceEqDiff, false_and, true_and, and_true, reduceIte, hne, c]
        exact b3
    · simp only [gfr_sfr, gfr_sfi, gfi_sfi, gfi_sfr, Nat.reduceEqDiff, false_and, true_and, and_true, reduceIte]
      exact b4
    · simp only [gfr_sfr, gfr_sfi, gfi_sfi, gfi_sfr, Nat.reduceEqDiff, false_and, true_and, and_true, reduceIte]
      exact b5
    · simp only [gfr_sfr, gfr_sfi, gfi_sfi, gfi_sfr, Nat.reduceEqDiff, false_and, true_and, and_true, reduceIte]
      exact b6
  · show gokO g (some (if k = x then v else vl k)) = true
    split
    · exact hv
    · exact a6 k hk
  · show 0 ≤ (if k = x then s else ky k) ∧ (if k = x then s else ky k) < 128
    split
    · exact hs
    · exact a7 k hk
theorem TLk.ren {x s : Int} {vl' : Int → Nat} (H : TSh K lo hi L R P rt) (h : TLk g t K N ky vl L R P rt) (kx : K x) (ks : ¬ K s) (e1 : ky x = s) (e2 : ∀ k, K k → k ≠ x → ky k = k) (e3 : vl x = vl' s) (e4 : ∀ k, K k → k ≠ x → vl k = vl' k) :
    TLk g t (fun k => (K k ∧ k ≠ x) ∨ k = s) (fun a => if a = s then N x else N a) (fun k => k) vl' (fun a => if a = s then L x else if L a = some x then some s else L a) (fun a => if a = s then R x else if R a = some x then some s else R a) (fun a => if a = s then P x else if P a = some x then some s else P a) (if rt = some x then some s else rt) := by
  obtain ⟨a1, a2, a3, a4, a5, a6, a7⟩ := id h
  have mp : ∀ o : Option Int, (∀ k, o = some k → K k) → o ≠ some x → o.map N = o.map (fun a => if a = s then N x else N a) := by
    intro o ho hne
    cases o with
    | none => rfl
    | some k =>
      show some (N k) = some (if k = s then N x else N k)
      rw [if_neg (fun (z : k = s) => ks (z ▸ ho k rfl))]
  have mq : ∀ o : Option Int, (∀ k, o = some k → K k) → o.map N = (if o = some x then some s else o).map (fun a => if a = s then N x else N a) := by
    intro o ho
    by_cases c : o = some x
    · rw [if_pos c, c]
      show some (N x) = some (if s = s then N x else N s)
      rw [if_pos rfl]
    · rw [if_neg c]; exact mp o ho c
  have nself : ∀ k, K k → L k ≠ some k ∧ R k ≠ some k ∧ P k ≠ some k := fun k hk => by
    have b := H.1 k hk
    refine ⟨fun z => ?_, fun z => ?_, fun z => ?_⟩
    · have := (H.2.2.1 k hk).2 k z; omega
    · have := (H.2.2.2.1 k hk).2 k z; omega
    · rcases ((H.2.2.2.2.1 k hk).2 k z).2 with w | w
      · have := (H.2.2.1 k hk).2 k w; omega
      · have := (H.2.2.2.1 k hk).2 k w; omega
  refine ⟨a1, a2, a3.trans (mq rt (fun k hk => (H.2.2.2.2.2.2 k hk).1)), fun k hk => ?_, fun j k hj hk hjk => ?_, fun k hk => ?_, fun k hk => ?_⟩
  · by_cases c : k = s
    · subst c
      obtain ⟨b1, b2, b3, b4, b5, b6⟩ := a4 x kx
      obtain ⟨n1, n2, n3⟩ := nself x kx
      dsimp only
      rw [if_pos rfl, if_pos rfl, if_pos rfl, if_pos rfl, ← mp _ (H.vL kx) n1, ← mp _ (H.vR kx) n2, ← mp _ (H.vP kx) n3, ← e3]
      refine ⟨b1, ?_, b3, b4, b5, b6⟩
      rw [b2, e1]
    · have hk := hk.resolve_right c
      obtain ⟨b1, b2, b3, b4, b5, b6⟩ := a4 k hk.1
      dsimp only
      rw [if_neg c, if_neg c, if_neg c, if_neg c, ← mq _ (H.vL hk.1), ← mq _ (H.vR hk.1), ← mq _ (H.vP hk.1), ← e4 k hk.1 hk.2]
      refine ⟨b1, ?_, b3, b4, b5, b6⟩
      rw [b2, e2 k hk.1 hk.2]
  · have jk : (if j = s then N x else N j) = (if k = s then N x else N k) := hjk
    by_cases c : j = s
    · rw [if_pos c] at jk
      by_cases c2 : k = s
      · rw [c, c2]
      · rw [if_neg c2] at jk
        have hk := hk.resolve_right c2
        exact absurd (a5 x k kx hk.1 jk).symm hk.2
    · have hj := hj.resolve_right c
      rw [if_neg c] at jk
      by_cases c2 : k = s
      · rw [if_pos c2] at jk
        exact absurd (a5 j x hj.1 kx jk) hj.2
      · rw [if_neg c2] at jk
        exact a5 j k hj.1 (hk.resolve_right c2).1 jk
  · by_cases c : k = s
    · rw [c, ← e3]; exact a6 x kx
    · have hk := hk.resolve_right c
      rw [← e4 k hk.1 hk.2]; exact a6 k hk.1
  · by_cases c : k = s
    · rw [c, ← e1]; exact a7 x kx
    · have hk := hk.resolve_right c
      rw [← e2 k hk.1 hk.2]; exact a7 k hk.1
/-- what remove leaves -/
def TmR (g g' : GH) (t : Nat) (M : Int → Option Nat) (N : Int → Nat) (x : Int) : Prop := ∃ N', Kp g g' (TmS t (Kd M) N) 0 ∧ TMs g' t (upM M x none) N' ∧ (∀ k, Kd (upM M x none) k → ∃ j, Kd M j ∧ N' k = N j) ∧ gfi g 124 t ≤ gfi g' 124 t ∧ gfi g' 124 t ≤ gfi g 124 t + 1
theorem G_tmDel (h : TMs g t M N) {x : Int} (kx : Kd M x) (hm : gfi g 124 t < 2147483646) : GMr (d + 3) gk_J5_deleteEntry [aR t, aR (N x)] g (fun r g' => r = none ∧ TmR g g' t M N x) := by
  refine GMr.wf (fun hW => ?_)
  have hm0 := hW.2.1.1 124 t
  obtain ⟨lo, hi, L, R, P, rt, h1, h2, h3, h4, h5, h6⟩ := h
  have tA := h3.1
  have nA := h3.nat kx
  have bx := h1.1 x kx
  refine GM.of rfl rfl rfl ?_
  (repeat (refine GW.pl rfl rfl ?_))
  refine GW.geti (v := gfi g 124 t) rfl rfl (GHas.at tA rfl) rfl (fun _ => ?_)
  (repeat (refine GW.pl rfl rfl ?_))
  refine GW.puti rfl rfl tA rfl ⟨by omega, by omega⟩ ?_
  (repeat (refine GW.pl rfl rfl ?_))
  refine GW.geti (v := gfi g 123 t) rfl rfl (GHas.at tA rfl) (gfi_nf rfl) (fun _ => ?_)
  (repeat (refine GW.pl rfl rfl ?_))
  refine GW.puti rfl rfl tA rfl ⟨by omega, by omega⟩ ?_
  have z3 : gfi (gsfi (gsfi g 124 t (gfi g 124 t + 1)) 123 t (gfi g 123 t - 1)) 123 t = gfi g 123 t - 1 := gfi_eq
  have z4 : gfi (gsfi (gsfi g 124 t (gfi g 124 t + 1)) 123 t (gfi g 123 t - 1)) 124 t = gfi g 124 t + 1 := (gfi_nf (g := gsfi g 124 t (gfi g 124 t + 1)) (F := 123) (n := t) rfl).trans gfi_eq
  have hK1 : Kp g (gsfi (gsfi g 124 t (gfi g 124 t + 1)) 123 t (gfi g 123 t - 1)) (TmS t (Kd M) N) 0 := (Kp.fi (S := TmS t (Kd M) N) (F := 124) (n := t) (x := gfi g 124 t + 1) rfl (Or.inl rfl)).tr (Kp.fi rfl (Or.inl rfl))
  have l1 : TLk (gsfi (gsfi g 124 t (gfi g 124 t + 1)) 123 t (gfi g 123 t - 1)) t (Kd M) N (fun k => k) (vd M) L R P rt := h3
  have hc1 : clrs (gsfi (gsfi g 124 t (gfi g 124 t + 1)) 123 t (gfi g 123 t - 1)) (Kd M) N := fun k hk => by
    rw [show gfi (gsfi (gsfi g 124 t (gfi g 124 t + 1)) 123 t (gfi g 123 t - 1)) 133 (N k) = gfi g 133 (N k) from (gfi_nf rfl).trans (gfi_nf rfl)]
    exact h4 k hk
  generalize gsfi (gsfi g 124 t (gfi g 124 t + 1)) 123 t (gfi g 123 t - 1) = g1 at *
  have nA1 := l1.nat kx
  -- one child at most
  have one : L x = none ∨ R x = none → GW (d + 2) gm_J5_deleteEntry 31 [some (aR t), some (aR (N x)), none] [] g1 (fun r g' => ∃ v, r = .inl v ∧ v = none ∧ TmR g g' t M N x) := by
    intro hor
    refine (G_del31 (d := d) h1 h2 l1 hc1 kx hor none).imp (fun r g' ⟨v, e, e2, lo', hi', L', R', P', rt', q1, q2, q3, q4, q5, q6⟩ => ⟨v, e, e2, N, hK1.tr q5, ⟨lo', hi', L', R', P', rt', ?_, ?_, ?_, ?_, ?_, ?_⟩, fun k hk => ⟨k, ?_, rfl⟩, ?_, ?_⟩)
    · rw [Kd_no]; exact q1
    · rw [Kd_no]; exact q2
    · have e : ∀ k, (Kd M k ∧ k ≠ x) → vd (upM M x none) k = vd M k := fun k hk => by unfold vd upM; rw [if_neg hk.2]
      rw [Kd_no]
      obtain ⟨a1, a2, a3, a4, a5, a6, a7⟩ := q3
      refine ⟨a1, a2, a3, fun k hk => ?_, a5, fun k hk => ?_, a7⟩
      · rw [e k hk]; exact a4 k hk
      · rw [e k hk]; exact a6 k hk
    · rw [Kd_no]; exact q4
    · rw [q6 123 rfl t, q6 124 rfl t, z3, z4]; omega
    · rw [q6 123 rfl t, q6 124 rfl t, z3, z4]; omega
    · rw [Kd_no] at hk; exact hk.1
    · rw [q6 124 rfl t, z4]; omega
    · rw [q6 124 rfl t, z4]; omega
  (repeat (refine GW.pl rfl rfl ?_))
  refine GW.getr rfl rfl (GHas.at nA1 rfl) (l1.fL kx) ?_
  cases hl : L x with
  | none =>
    refine GW.nul rfl rfl rfl ?_
    exact one (Or.inl hl)
  | some a =>
    refine GW.nul rfl rfl (gok_at (l1.nat (h1.vL kx a hl)) rfl) ?_
    (repeat (refine GW.pl rfl rfl ?_))
    refine GW.getr rfl rfl (GHas.at nA1 rfl) (l1.fR kx) ?_
    cases hr : R x with
    | none =>
      refine GW.nul rfl rfl rfl ?_
      exact one (Or.inr hr)
    | some b =>
      refine GW.nul rfl rfl (gok_at (l1.nat (h1.vR kx b hr)) rfl) ?_
      (repeat (refine GW.pl rfl rfl ?_))
      refine GW.c1 rfl rfl (by first | exact Or.inl rfl | exact Or.inr (grecv_at (by assumption)) | exact Or.inr (grecv_c (by assumption)) | exact Or.inr (grecv_c (SIs.cls (by assumption))) | exact Or.inr (grecv_at (BSb.at (by assumption)))) (by first | exact Or.inl (by decide) | exact Or.inr (gnewv_at (by assumption))) rfl (G_succ h1 l1 kx hr) ?_
      rintro _ _ ⟨⟨s, rfl, ks, hLs, hxs, hsh, hno⟩, rfl⟩
      have sA := l1.nat ks
      have bs : 0 ≤ s ∧ s < 128 := l1.2.2.2.2.2.2 s ks
      (repeat (refine GW.pl rfl rfl ?_))
      refine GW.getr rfl rfl (GHas.at sA rfl) (l1.2.2.2.1 s ks).2.1 ?_
      refine GW.putr rfl rfl nA1 rfl ?_
      (repeat (refine GW.pl rfl rfl ?_))
      refine GW.getr rfl rfl (GHas.at sA rfl) ((gfr_nf rfl).trans (l1.2.2.2.1 s ks).2.2.1) ?_
      refine GW.putr rfl rfl nA1 rfl ?_
      have l2 := l1.pay (s := s) (v := vd M s) kx bs (l1.2.2.2.2.2.1 s ks)
      have hK2 : Kp g (gsfr (gsfr g1 128 (N x) (some (s + 128).toNat)) 129 (N x) (some (vd M s))) (TmS t (Kd M) N) 0 := hK1.tr ((Kp.fr (S := TmS t (Kd M) N) rfl (Or.inr ⟨x, kx, rfl⟩)).tr (Kp.fr rfl (Or.inr ⟨x, kx, rfl⟩)))
      (iterate 2 (refine GW.pl rfl rfl ?_))
      refine (G_del31 (d := d) h1 h2 l2 hc1 ks (Or.inl hLs) _).imp (fun r g' ⟨v, e, e2, lo', hi', L', R', P', rt', q1, q2, q3, q4, q5, q6⟩ => ?_)
      have kx' : Kd M x ∧ x ≠ s := ⟨kx, by omega⟩
      have ks' : ¬ (Kd M s ∧ s ≠ s) := fun z => z.2 rfl
      have hno' : ∀ y, (Kd M y ∧ y ≠ s) → y ≤ x ∨ s < y := fun y hy => by have := hno y hy.1; have := hy.2; omega
      have hsx : s < hi' x := by
        have b1 := q1.1 x kx'
        rcases (q2 x kx').2 with z | z
        · omega
        · have := hno' _ z; omega
      have T := q1.ren q2 kx' hxs hsx hno'
      have eK : Kd (upM M x none) = fun k => ((Kd M k ∧ k ≠ s) ∧ k ≠ x) ∨ k = s := by
        rw [Kd_no]
        funext k
        apply propext
        constructor
        · rintro ⟨z1, z2⟩
          by_cases c : k = s
          · exact Or.inr c
          · exact Or.inl ⟨⟨z1, c⟩, z2⟩
        · rintro (z | z)
          · exact ⟨z.1.1, z.2⟩
          · rw [z]; exact ⟨ks, by omega⟩
      have eB : TBd (fun k => ((Kd M k ∧ k ≠ s) ∧ k ≠ x) ∨ k = s) (fun a => if a = s then lo' x else if lo' a = x then s else lo' a) (fun a => if a = s then hi' x else if hi' a = x then s else hi' a) := by
        have bk : ∀ z, (Kd M z ∧ z ≠ s) → z ≠ x → (((Kd M z ∧ z ≠ s) ∧ z ≠ x) ∨ z = s) := fun z h1 h2 => Or.inl ⟨h1, h2⟩
        intro a ha
        dsimp only
        by_cases c : a = s
        · have bx' := q1.1 x kx'
          rw [if_pos c, if_pos c]
          exact ⟨(q2 x kx').1.elim Or.inl (fun z => Or.inr (bk _ z (by omega))), (q2 x kx').2.elim Or.inl (fun z => Or.inr (bk _ z (by omega)))⟩
        · have ka := ha.resolve_right c
          rw [if_neg c, if_neg c]
          constructor
          · split
            · exact Or.inr (Or.inr rfl)
            · rename_i w
              exact (q2 a ka.1).1.elim Or.inl (fun z => Or.inr (bk _ z w))
          · split
            · exact Or.inr (Or.inr rfl)
            · rename_i w
              exact (q2 a ka.1).2.elim Or.inl (fun z => Or.inr (bk _ z w))
      have eL := TLk.ren (vl' := vd (upM M x none)) q1 q3 kx' ks' (if_pos rfl) (fun k _ hk => if_neg hk) (by
        show (if x = x then vd M s else vd M x) = vd (upM M x none) s
        rw [if_pos rfl]; unfold vd upM; rw [if_neg (show ¬ s = x by omega)]) (fun k _ hk => by
        show (if k = x then vd M s else vd M k) = vd (upM M x none) k
        rw [if_neg hk]; unfold vd upM; rw [if_neg hk])
      refine ⟨v, e, e2, fun a => if a = s then N x else N a, hK2.tr q5, ⟨_, _, _, _, _, _, eK ▸ T, eK ▸ eB, eK ▸ eL, ?_, ?_, ?_⟩, fun k hk => ?_, ?_, ?_⟩
      · rw [eK]
        intro k hk
        show gfi g' 133 (if k = s then N x else N k) = 0 ∨ gfi g' 133 (if k = s then N x else N k) = 1
        by_cases c : k = s
        · rw [if_pos c]; exact q4 x kx'
        · rw [if_neg c]; exact q4 k (hk.resolve_right c).1
      · rw [q6 123 rfl t, q6 124 rfl t]
        show gfi g1 123 t ≤ gfi g1 124 t
        rw [z3, z4]; omega
      · rw [q6 123 rfl t, q6 124 rfl t]
        show -(gfi g1 124 t) ≤ gfi g1 123 t
        rw [z3, z4]; omega
      · rw [eK] at hk
        by_cases c : k = s
        · exact ⟨x, kx, if_pos c⟩
        · exact ⟨k, (hk.resolve_right c).1.1, if_neg c⟩
      · rw [q6 124 rfl t]
        show gfi g 124 t ≤ gfi g1 124 t
        rw [z4]; omega
      · rw [q6 124 rfl t]
        show gfi g1 124 t ≤ gfi g 124 t + 1
        rw [z4]; omega
theorem G_tmRem (h : TMs g t M N) {x : Int} (hx : 0 ≤ x ∧ x < 128) (hm : gfi g 124 t < 2147483646) : GMr (d + 5) gk_J5_remove [aR t, aR (x + 128).toNat] g (fun r g' => r = vR (M x) ∧ (Kd M x → TmR g g' t M N x) ∧ (¬ Kd M x → g' = g)) := by
  have tA := h.at
  have hh := h
  obtain ⟨lo, hi, L, R, P, rt, h1, h2, h3, h4, h5, h6⟩ := h
  refine GM.of rfl rfl rfl ?_
  (repeat (refine GW.pl rfl rfl ?_))
  refine GW.c2 rfl rfl (by first | exact Or.inl rfl | exact Or.inr (grecv_at (by assumption)) | exact Or.inr (grecv_c (by assumption)) | exact Or.inr (grecv_c (SIs.cls (by assumption))) | exact Or.inr (grecv_at (BSb.at (by assumption)))) (by first | exact Or.inl (by decide) | exact Or.inr (gnewv_at (by assumption))) rfl (G_tmEnt hh hx) ?_; rintro _ _ ⟨rfl, rfl⟩
  (repeat (refine GW.pl rfl rfl ?_))
  cases hz : M x with
  | none =>
    refine GW.nul rfl rfl rfl ?_
    (repeat (refine GW.pl rfl rfl ?_))
    exact GW.aret rfl rfl ⟨_, rfl, rfl, fun z => absurd hz z, fun _ => rfl⟩
  | some v =>
    have kx : Kd M x := by unfold Kd; rw [hz]; exact fun z => by cases z
    have nA := h3.nat kx
    refine GW.nul rfl rfl (gok_at nA rfl) ?_
    (repeat (refine GW.pl rfl rfl ?_))
    have e : gfr g 129 (N x) = some v := by
      have := (h3.2.2.2.1 x kx).2.2.1
      unfold vd at this
      rw [hz] at this
      exact this
    refine GW.getr rfl rfl (GHas.at nA rfl) e ?_
    (repeat (refine GW.pl rfl rfl ?_))
    refine GW.c2 rfl rfl (by first | exact Or.inl rfl | exact Or.inr (grecv_at (by assumption)) | exact Or.inr (grecv_c (by assumption)) | exact Or.inr (grecv_c (SIs.cls (by assumption))) | exact Or.inr (grecv_at (BSb.at (by assumption)))) (by first | exact Or.inl (by decide) | exact Or.inr (gnewv_at (by assumption))) rfl (G_tmDel hh kx hm) ?_
    rintro _ g1 ⟨rfl, hQ⟩
    (repeat (refine GW.pl rfl rfl ?_))
    exact GW.aret rfl rfl ⟨_, rfl, rfl, fun _ => hQ, fun z => absurd kx z⟩
end Tz
