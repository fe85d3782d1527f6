-- C
set_option maxRecDepth 100000
/-! THE READER: plain -/
abbrev W2 (n q : Nat) (m : Nat) : Prop := m = n ∨ m = q
/-- what adds parts answers: what is left, groups closed, stars, parts -/
def PpX (n q cf : Nat) (s l : List Int) (S : BS) (cap : Nat) (F : Nat → Prop) (ps : List SPart) (R : PR (Nat × Nat × List SPart)) (r : GO) (S' : BS) : Prop := match R with
  | .inl f => ∃ S1, Fr S S1 (fun m => m = n ∨ m = q) (400 * l.length + cf) ∧ Thr9 5 42 ((s.length : Int) - f.length) S1 r S'
  | .inr (l1, c1, st1, qs) => r = .inl none ∧ l1.length < l.length ∧ qs.length ≤ 2 * (l.length - l1.length) ∧ ∃ cap' xs', Fr S S' (fun m => m = n ∨ m = q) (400 * (l.length - l1.length) + 6 * (cap' - cap)) ∧ cap ≤ cap' ∧ (cap' = cap ∨ cap' ≤ 2 * (ps.length + qs.length) + 10) ∧ RdAt S' n s l1 ∧ Fi S' 76 n st1 ∧ Fi S' 77 n c1 ∧ Ob S' q (oAl xs' cap') ∧ PtsE S' F xs' (ps ++ qs)
def plR (c0 st0 : Nat) (l : List Int) : PR (Nat × Nat × List SPart) := match pPlain st0 l with
  | .inl f => .inl f
  | .inr (l1, st1, pt) => .inr (l1, c0, st1, [pt])
section PL
variable {d i a n q x b m c cap c0 st0 cf : Nat} {M : GMeth} {ls : GL} {st : List GV} {xs : List (Option Nat)} {ps : List SPart} {p : SPart} {s l l1 f acc : List Int} {S S0 S1 S' : BS} {F : Nat → Prop} {Q : GO → BS → Prop} {y : Option Nat} {o : Obj}
theorem C_partNew (hn : Ob S n (oOwn 8)) (h1000 : 1000 ≤ n) {k' k2 z : Int} {r : Option Nat} (hk : inR k') (hm : inR k2) (hz : z = 0 ∨ z = 1) : BMr (d + 1) gk_X8_init [aR n, aI k', aI k2, aQ r, aI z] S (fun r' S' => r' = none ∧ Fr1 S S' n 0 ∧ Ob S' n (oOwn 8) ∧ Fi S' 62 n k' ∧ Fi S' 63 n k2 ∧ Fe S' 64 n r ∧ Fi S' 65 n z) := by
  obtain ⟨H, fi, fr, t⟩ := S
  refine BMr.mono (B_partNew (d := d) hn h1000 hk hm hz) (fun r' S' ⟨h1, h2⟩ => ⟨h1, ?_⟩)
  subst h2
  refine ⟨⟨fun _ z => z, fun k _ hk => ⟨rfl, fun F _ => ⟨?_, if_neg (fun z => hk z.2)⟩⟩, Nat.le_refl _⟩, hn, ?_, ?_, if_pos ⟨rfl, rfl⟩, if_pos ⟨rfl, rfl⟩⟩
  · show upI (upI (upI fi 62 n k') 63 n k2) 65 n z F k = fi F k
    unfold upI
    rw [if_neg (fun z => hk z.2), if_neg (fun z => hk z.2), if_neg (fun z => hk z.2)]
  · show upI (upI (upI fi 62 n k') 63 n k2) 65 n z 62 n = _
    unfold upI; simp
  · show upI (upI (upI fi 62 n k') 63 n k2) 65 n z 63 n = _
    unfold upI; simp
theorem PtsE.new (hE : PtsE S F xs ps) (hN : Nw S S1 m o c) : PtsE S1 (fun k => F k ∧ k ≠ m) xs ps := by
  have : PtsE S (fun k => F k ∧ k ≠ m) xs ps := ⟨hE.1, fun j hj => by
    obtain ⟨k, x, h1, h2, h3, h4⟩ := hE.2 j hj
    exact ⟨k, x, h1, ⟨h2, h3.neN hN.nil (oNe rfl)⟩, h3, h4⟩⟩
  exact this.fr hN.fr ⟨NoS.no, Av.no⟩
/-- a part is made and added -/
theorem CW.addPart {a1 a2 a3 t1 t2 : Nat} {b1 b2 b3 : Int} (hC1 : M.2.2.1[i]? = some (60, a1, b1)) (hs1 : gsites[a1]? = some (4, gk_X8_init, t1, 5)) (ht1 : t1 = 0 ∨ t1 = 8) (hC2 : M.2.2.1[i + 1]? = some (60, a2, b2)) (hs2 : gsites[a2]? = some (7, gk_J6_add, t2, 2)) (ht2 : t2 = 0 ∨ t2 = 16) (hC3 : M.2.2.1[i + 1 + 1]? = some (38, a3, b3))
    (hm : Ob S m (oOwn 8)) (h1000 : 1000 ≤ m) (hq : Ob S q (oAl xs cap)) (hE : PtsE S (fun k => F k ∧ k ≠ m) xs ps) (hFm : F m) (hFq : ¬ F q) (hx : StrIs S y p.2.2.1) (hp : p.1 < 100 ∧ p.2.1 < 100) (hlen : ps.length < 1000) (hT : S.2.2.2 < 1000000000) {k1 k2 k3 : Int} (hk1 : k1 = p.1) (hk2 : k2 = p.2.1) (hk3 : k3 = b2i p.2.2.2)
    (k : ∀ S' cap' xs', Ob S' q (oAl xs' cap') → PtsE S' F xs' (ps ++ [p]) → Fr S S' (fun k => k = m ∨ k = q) (1 + 6 * (cap' - cap)) → cap ≤ cap' → (cap' = cap ∨ cap' ≤ 2 * (ps.length + 1) + 10) → BW (d + 6) M (i + 1 + 1 + 1) ls [] S' Q) :
    BW (d + 6) M i ls [aI k3, aQ y, aI k2, aI k1, aR m, aR m, aR q] S Q := by
  subst hk1 hk2 hk3
  have hmq : m ≠ q := hm.ne hq (oNe rfl)
  refine CW.c5 hC1 hs1 (ht1.imp id (fun z => tagO hm (by rw [z]; rfl) rfl)) (Or.inr ⟨m, rfl, h1000⟩) rfl (C_partNew (d := d + 5) hm h1000 ⟨by omega, by omega⟩ ⟨by omega, by omega⟩ (by unfold b2i; split <;> simp)) ?_
  rintro r S1 ⟨rfl, hF1, hm1, g1, g2, g3, g4⟩
  have hq1 := hq.fr hF1 ⟨oNe rfl, hmq.symm⟩
  have hE1 := hE.fr hF1 ⟨NoS.one hm rfl, Av.ne (fun z => z.2 rfl)⟩
  have hx1 := hx.fr hF1 (NoS.one hm rfl)
  have ht1' := hF1.2.2
  refine CW.c2 hC2 hs2 (ht2.imp id (fun z => tagO hq1 (by rw [z]; rfl) rfl)) (Or.inl (by decide)) rfl (C_alAdd (d := d) hq1 (vOk_o hm1 rfl) (by rw [hE.1]; omega) (by omega)) ?_
  rintro r S2 ⟨rfl, cap', hq2, hF2, hc1, hc2⟩
  refine BW.pl hC3 rfl ?_
  have hm2 := hm1.fr hF2 ⟨oNe rfl, hmq⟩
  have e := hm1.old (oNe rfl)
  have hE2 := hE1.fr hF2 ⟨NoS.one hq1 rfl, Av.ne (fun z => hFq z.1)⟩
  have hx2 := hx1.fr hF2 (NoS.one hq1 rfl)
  refine k S2 cap' _ hq2 ((hE2.mono (fun _ z => z.1)).app ⟨m, y, rfl, hFm, hm2, g1.fr hF2 ⟨⟨e, by decide⟩, hmq⟩, g2.fr hF2 ⟨⟨e, by decide⟩, hmq⟩, g3.fr hF2 ⟨⟨e, by decide⟩, hmq⟩, hx2, g4.fr hF2 ⟨⟨e, by decide⟩, hmq⟩⟩) ?_ hc1 (by rw [hE.1] at hc2; exact hc2)
  exact ((hF1.w (W2 := fun k => k = m ∨ k = q) (fun _ _ z => Or.inl z) (Nat.le_refl _)).tr hF2 (fun _ _ z => Or.inr z)).w (fun _ _ z => z) (by omega)
end PL
