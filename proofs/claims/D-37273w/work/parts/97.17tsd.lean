set_option maxRecDepth 100000
/-! SHAPES OF SEARCH TREES: a node with at most one child goes; a key is renamed -/
def TBd (K : Int → Prop) (lo hi : Int → Int) : Prop := ∀ k, K k → (lo k = -1 ∨ K (lo k)) ∧ (hi k = 128 ∨ K (hi k))
def oel (a b : Option Int) : Option Int := match a with
  | none => b
  | some x => some x
section TSd
variable {K : Int → Prop} {lo hi : Int → Int} {L R P : Int → Option Int} {rt : Option Int}
theorem TBd.rotL {i j : Int} (H : TSh K lo hi L R P rt) (B : TBd K lo hi) (ki : K i) (hj : R i = some j) : TBd K (fun a => if a = j then lo i else lo a) (fun a => if a = i then j else hi a) := by
  intro a ha
  have kj := ((H.2.2.2.1 i ki).2 j hj).1
  dsimp only
  constructor
  · split
    · exact (B i ki).1
    · exact (B a ha).1
  · split
    · exact Or.inr kj
    · exact (B a ha).2
theorem TBd.rotR {i j : Int} (H : TSh K lo hi L R P rt) (B : TBd K lo hi) (ki : K i) (hj : L i = some j) : TBd K (fun a => if a = i then j else lo a) (fun a => if a = j then hi i else hi a) := by
  intro a ha
  have kj := ((H.2.2.1 i ki).2 j hj).1
  dsimp only
  constructor
  · split
    · exact Or.inr kj
    · exact (B a ha).1
  · split
    · exact (B i ki).2
    · exact (B a ha).2
theorem TBd.addL {p x : Int} (B : TBd K lo hi) (hp : K p) : TBd (fun k => K k ∨ k = x) (fun a => if a = x then lo p else lo a) (fun a => if a = x then p else hi a) := by
  intro a ha
  dsimp only
  by_cases c : a = x
  · rw [if_pos c, if_pos c]
    exact ⟨(B p hp).1.elim Or.inl (fun z => Or.inr (Or.inl z)), Or.inr (Or.inl hp)⟩
  · rw [if_neg c, if_neg c]
    have b := B a (ha.resolve_right c)
    exact ⟨b.1.elim Or.inl (fun z => Or.inr (Or.inl z)), b.2.elim Or.inl (fun z => Or.inr (Or.inl z))⟩
theorem TBd.addR {p x : Int} (B : TBd K lo hi) (hp : K p) : TBd (fun k => K k ∨ k = x) (fun a => if a = x then p else lo a) (fun a => if a = x then hi p else hi a) := by
  intro a ha
  dsimp only
  by_cases c : a = x
  · rw [if_pos c, if_pos c]
    exact ⟨Or.inr (Or.inl hp), (B p hp).2.elim Or.inl (fun z => Or.inr (Or.inl z))⟩
  · rw [if_neg c, if_neg c]
    have b := B a (ha.resolve_right c)
    exact ⟨b.1.elim Or.inl (fun z => Or.inr (Or.inl z)), b.2.elim Or.inl (fun z => Or.inr (Or.inl z))⟩
theorem TBd.del {x : Int} (H : TSh K lo hi L R P rt) (B : TBd K lo hi) (kx : K x) : TBd (fun k => K k ∧ k ≠ x) (fun a => if lo a = x then lo x else lo a) (fun a => if hi a = x then hi x else hi a) := by
  intro a ha
  have bx := H.1 x kx
  dsimp only
  constructor
  · split
    · rcases (B x kx).1 with h | h
      · exact Or.inl h
      · exact Or.inr ⟨h, by omega⟩
    · rename_i c
      rcases (B a ha.1).1 with h | h
      · exact Or.inl h
      · exact Or.inr ⟨h, c⟩
  · split
    · rcases (B x kx).2 with h | h
      · exact Or.inl h
      · exact Or.inr ⟨h, by omega⟩
    · rename_i c
      rcases (B a ha.1).2 with h | h
      · exact Or.inl h
      · exact Or.inr ⟨h, c⟩
theorem TSh.del {x : Int} (H : TSh K lo hi L R P rt) (kx : K x) (h1 : L x = none ∨ R x = none) :
    TSh (fun k => K k ∧ k ≠ x) (fun a => if lo a = x then lo x else lo a) (fun a => if hi a = x then hi x else hi a)
      (fun a => if L a = some x then oel (L x) (R x) else L a) (fun a => if R a = some x then oel (L x) (R x) else R a) (fun a => if oel (L x) (R x) = some a then P x else P a) (if rt = some x then oel (L x) (R x) else rt) := by
  obtain ⟨W1, W2, W3, W4, W5, W6, W7⟩ := id H
  have bx := W1 x kx
  -- the child, if there is one
  have hc : ∀ c, oel (L x) (R x) = some c → K c ∧ P c = some x ∧ (L x = some c ∧ R x = none ∧ lo c = lo x ∧ hi c = x ∨ R x = some c ∧ L x = none ∧ lo c = x ∧ hi c = hi x) := by
    intro c h
    cases hl : L x with
    | none =>
      rw [hl] at h
      have h : R x = some c := h
      obtain ⟨c1, c2, c3, c4⟩ := (W4 x kx).2 c h
      exact ⟨c1, c4, Or.inr ⟨h, rfl, c2, c3⟩⟩
    | some b =>
      rw [hl] at h
      have h : some b = some c := h
      cases h
      obtain ⟨c1, c2, c3, c4⟩ := (W3 x kx).2 c hl
      exact ⟨c1, c4, Or.inl ⟨rfl, h1.resolve_left (fun z => by rw [hl] at z; cases z), c2, c3⟩⟩
  have hn : oel (L x) (R x) = none → L x = none ∧ R x = none := by
    intro h
    cases hl : L x with
    | none => rw [hl] at h; exact ⟨rfl, h⟩
    | some b => rw [hl] at h; cases h
  -- not keys on both sides
  have one : (∀ y, K y → ¬ (lo x < y ∧ y < x)) ∨ (∀ y, K y → ¬ (x < y ∧ y < hi x)) := h1.elim (fun h => Or.inl ((W3 x kx).1 h)) (fun h => Or.inr ((W4 x kx).1 h))
  have sl : ∀ a, K a → a ≠ x → (a < x → hi a ≤ lo x ∨ (lo x ≤ lo a ∧ hi a ≤ x) ∨ (a ≤ lo x ∧ hi x ≤ hi a)) ∧ (x < a → hi x ≤ lo a ∨ (lo a ≤ lo x ∧ hi x ≤ a) ∨ (x ≤ lo a ∧ hi a ≤ hi x)) := fun a ha hne => ⟨fun h => W2 a x ha kx h, fun h => W2 x a kx ha h⟩
  -- where a bound is x
  have hiX : ∀ a, K a → hi a = x → lo x ≤ lo a ∧ lo x < a ∧ a < x := by
    intro a ha h
    have ba := W1 a ha
    have := (sl a ha (by omega)).1 (by omega)
    omega
  have loX : ∀ a, K a → lo a = x → hi a ≤ hi x ∧ x < a ∧ a < hi x := by
    intro a ha h
    have ba := W1 a ha
    have := (sl a ha (by omega)).2 (by omega)
    omega
  refine ⟨fun a ha => ?_, fun a b ha hb hab => ?_, fun a ha => ⟨fun h y hy => ?_, fun b h => ?_⟩, fun a ha => ⟨fun h y hy => ?_, fun b h => ?_⟩, fun a ha => ⟨fun h => ?_, fun q h => ?_⟩, fun h k hk => ?_, fun r h => ?_⟩
  · have ba := W1 a ha.1
    have := hiX a ha.1
    have := loX a ha.1
    dsimp only
    split <;> split <;> omega
  · have w := W2 a b ha.1 hb.1 hab
    have ba := W1 a ha.1
    have bb := W1 b hb.1
    have sa := sl a ha.1 ha.2
    have sb := sl b hb.1 hb.2
    have ax := hiX a ha.1
    have ay := loX a ha.1
    have bx2 := hiX b hb.1
    have bY := loX b hb.1
    have ha2 := ha.2
    have hb2 := hb.2
    dsimp only
    rcases one with o | o
    · have oa := o a ha.1
      have ob := o b hb.1
      split <;> split <;> split <;> split <;> omega
    · have oa := o a ha.1
      have ob := o b hb.1
      split <;> split <;> split <;> split <;> omega
  · dsimp only at h ⊢
    have ba := W1 a ha.1
    have hy2 := hy.2
    by_cases c : L a = some x
    · rw [if_pos c] at h
      obtain ⟨e1, e2⟩ := hn h
      obtain ⟨c1, c2, c3, c4⟩ := (W3 a ha.1).2 x c
      have n1 := (W3 x kx).1 e1 y hy.1
      have n2 := (W4 x kx).1 e2 y hy.1
      rw [if_neg (by omega)]
      omega
    · rw [if_neg c] at h
      have n := (W3 a ha.1).1 h y hy.1
      split
      · rename_i z
        have := loX a ha.1 z
        rcases one with o | o
        · have := o y hy.1; omega
        · exact absurd ⟨this.2.1, this.2.2⟩ (o a ha.1)
      · exact n
  · dsimp only at h ⊢
    have ba := W1 a ha.1
    by_cases c : L a = some x
    · rw [if_pos c] at h
      obtain ⟨c1, c2, c3, c4⟩ := (W3 a ha.1).2 x c
      obtain ⟨d1, d2, d3⟩ := hc b h
      have bb := W1 b d1
      rw [if_pos h]
      refine ⟨⟨d1, by rcases d3 with d3 | d3 <;> omega⟩, ?_, ?_, c4⟩
      · rcases d3 with ⟨-, -, d4, d5⟩ | ⟨-, -, d4, d5⟩
        · rw [if_neg (by omega), if_neg (by omega)]; omega
        · rw [if_pos d4, if_neg (by omega)]; omega
      · rcases d3 with ⟨-, -, d4, d5⟩ | ⟨-, -, d4, d5⟩
        · rw [if_pos d5]; omega
        · rw [if_neg (by omega)]; omega
    · rw [if_neg c] at h
      obtain ⟨c1, c2, c3, c4⟩ := (W3 a ha.1).2 b h
      have bb := W1 b c1
      have bne : b ≠ x := fun e => c (e ▸ h)
      refine ⟨⟨c1, bne⟩, by rw [c2], by rw [if_neg (show ¬ hi b = x by have := ha.2; omega)]; exact c3, ?_⟩
      rw [if_neg (fun e => by have := (hc b e).2.1; exact ha.2 (Option.some.inj (c4.symm.trans this)))]
      exact c4
  · dsimp only at h ⊢
    have ba := W1 a ha.1
    have hy2 := hy.2
    by_cases c : R a = some x
    · rw [if_pos c] at h
      obtain ⟨e1, e2⟩ := hn h
      obtain ⟨c1, c2, c3, c4⟩ := (W4 a ha.1).2 x c
      have n1 := (W3 x kx).1 e1 y hy.1
      have n2 := (W4 x kx).1 e2 y hy.1
      rw [if_neg (by omega)]
      omega
    · rw [if_neg c] at h
      have n := (W4 a ha.1).1 h y hy.1
      split
      · rename_i z
        have := hiX a ha.1 z
        rcases one with o | o
        · exact absurd ⟨this.2.1, this.2.2⟩ (o a ha.1)
        · have := o y hy.1; omega
      · exact n
  · dsimp only at h ⊢
    have ba := W1 a ha.1
    by_cases c : R a = some x
    · rw [if_pos c] at h
      obtain ⟨c1, c2, c3, c4⟩ := (W4 a ha.1).2 x c
      obtain ⟨d1, d2, d3⟩ := hc b h
      have bb := W1 b d1
      rw [if_pos h]
      refine ⟨⟨d1, by rcases d3 with d3 | d3 <;> omega⟩, ?_, ?_, c4⟩
      · rcases d3 with ⟨-, -, d4, d5⟩ | ⟨-, -, d4, d5⟩
        · rw [if_neg (by omega)]; omega
        · rw [if_pos d4]; omega
      · rcases d3 with ⟨-, -, d4, d5⟩ | ⟨-, -, d4, d5⟩
        · rw [if_pos d5, if_neg (by omega)]; omega
        · rw [if_neg (by omega), if_neg (by omega)]; omega
    · rw [if_neg c] at h
      obtain ⟨c1, c2, c3, c4⟩ := (W4 a ha.1).2 b h
      have bb := W1 b c1
      have bne : b ≠ x := fun e => c (e ▸ h)
      refine ⟨⟨c1, bne⟩, by rw [if_neg (show ¬ lo b = x by have := ha.2; omega)]; exact c2, by rw [c3], ?_⟩
      rw [if_neg (fun e => by have := (hc b e).2.1; exact ha.2 (Option.some.inj (c4.symm.trans this)))]
      exact c4
  · dsimp only at h
    by_cases c : oel (L x) (R x) = some a
    · rw [if_pos c] at h
      have e := (W5 x kx).1 h
      rw [if_pos e]; exact c
    · rw [if_neg c] at h
      have e := (W5 a ha.1).1 h
      rw [if_neg (fun z => ha.2 (Option.some.inj (e.symm.trans z)))]
      exact e
  · dsimp only at h ⊢
    by_cases c : oel (L x) (R x) = some a
    · rw [if_pos c] at h
      obtain ⟨q1, q2⟩ := (W5 x kx).2 q h
      have qx : q ≠ x := fun e => by
        rcases q2 with q2 | q2
        · have := (W3 q q1).2 x q2; omega
        · have := (W4 q q1).2 x q2; omega
      refine ⟨⟨q1, qx⟩, ?_⟩
      rcases q2 with q2 | q2
      · left; rw [if_pos q2]; exact c
      · right; rw [if_pos q2]; exact c
    · rw [if_neg c] at h
      obtain ⟨q1, q2⟩ := (W5 a ha.1).2 q h
      have qx : q ≠ x := fun e => c (by
        subst e
        rcases q2 with q2 | q2
        · rw [q2]; rfl
        · rcases h1 with h1 | h1
          · rw [h1, q2]; rfl
          · rw [h1] at q2; cases q2)
      refine ⟨⟨q1, qx⟩, ?_⟩
      rcases q2 with q2 | q2
      · left; rw [if_neg (fun z => ha.2 (Option.some.inj (q2.symm.trans z)))]; exact q2
      · right; rw [if_neg (fun z => ha.2 (Option.some.inj (q2.symm.trans z)))]; exact q2
  · by_cases c : rt = some x
    · rw [if_pos c] at h
      obtain ⟨e1, e2⟩ := hn h
      obtain ⟨r1, r2, r3, r4⟩ := W7 x c
      have n1 := (W3 x kx).1 e1 k hk.1
      have n2 := (W4 x kx).1 e2 k hk.1
      have bk := W1 k hk.1
      have := hk.2
      omega
    · rw [if_neg c] at h
      exact W6 h k hk.1
  · dsimp only
    by_cases c : rt = some x
    · rw [if_pos c] at h
      obtain ⟨r1, r2, r3, r4⟩ := W7 x c
      obtain ⟨d1, d2, d3⟩ := hc r h
      have br := W1 r d1
      rw [if_pos h]
      refine ⟨⟨d1, by rcases d3 with d3 | d3 <;> omega⟩, ?_, ?_, r4⟩
      · rcases d3 with ⟨-, -, d4, d5⟩ | ⟨-, -, d4, d5⟩
        · rw [if_neg (by omega)]; omega
        · rw [if_pos d4]; exact r2
      · rcases d3 with ⟨-, -, d4, d5⟩ | ⟨-, -, d4, d5⟩
        · rw [if_pos d5]; exact r3
        · rw [if_neg (by omega)]; omega
    · rw [if_neg c] at h
      obtain ⟨r1, r2, r3, r4⟩ := W7 r h
      have rx : r ≠ x := fun e => c (e ▸ h)
      rw [if_neg (show ¬ lo r = x by omega), if_neg (show ¬ hi r = x by omega), if_neg (fun e => by rw [(hc r e).2.1] at r4; cases r4)]
      exact ⟨⟨r1, rx⟩, r2, r3, r4⟩
/-- the key x is called s from now on (no other key lies between, no bound is s) -/
theorem TSh.ren {x s : Int} (H : TSh K lo hi L R P rt) (B : TBd K lo hi) (kx : K x) (hxs : x < s) (hs : s < hi x) (hno : ∀ y, K y → y ≤ x ∨ s < y) :
    TSh (fun k => (K k ∧ k ≠ x) ∨ k = s) (fun a => if a = s then lo x else if lo a = x then s else lo a) (fun a => if a = s then hi x else if hi a = x then s else hi a)
      (fun a => if a = s then L x else if L a = some x then some s else L a) (fun a => if a = s then R x else if R a = some x then some s else R a) (fun a => if a = s then P x else if P a = some x then some s else P a) (if rt = some x then some s else rt) := by
  obtain ⟨W1, W2, W3, W4, W5, W6, W7⟩ := id H
  have bx := W1 x kx
  have ks : ∀ a, K a → a ≠ s := fun a ha e => by have := hno a ha; omega
  have bd : ∀ a, K a → (lo a ≤ x ∨ s < lo a) ∧ (hi a ≤ x ∨ s < hi a) := by
    intro a ha
    have b := B a ha
    have ba := W1 a ha
    constructor
    · rcases b.1 with h | h
      · omega
      · exact hno _ h
    · rcases b.2 with h | h
      · omega
      · exact hno _ h
  refine ⟨fun a ha => ?_, fun a b ha hb hab => ?_, fun a ha => ⟨fun h y hy => ?_, fun b h => ?_⟩, fun a ha => ⟨fun h y hy => ?_, fun b h => ?_⟩, fun a ha => ⟨fun h => ?_, fun q h => ?_⟩, fun h k hk => ?_, fun r h => ?_⟩
  · dsimp only
    by_cases c : a = s
    · subst c; rw [if_pos rfl, if_pos rfl]; omega
    · have ka := ha.resolve_right c
      have ba := W1 a ka.1
      have bda := bd a ka.1
      have na := hno a ka.1
      have := ka.2
      rw [if_neg c, if_neg c]
      split <;> split <;> omega
  · dsimp only
    by_cases c : a = s
    · subst c
      have kb := hb.resolve_right (by omega)
      rw [if_pos rfl, if_pos rfl, if_neg (show ¬ b = a by omega), if_neg (show ¬ b = a by omega)]
      have bb := W1 b kb.1
      have bdb := bd b kb.1
      have nb := hno b kb.1
      have := W2 x b kx kb.1 (by omega)
      split <;> split <;> omega
    · have ka := ha.resolve_right c
      have ba := W1 a ka.1
      have bda := bd a ka.1
      have na := hno a ka.1
      have ha2 := ka.2
      rw [if_neg c, if_neg c]
      by_cases c2 : b = s
      · subst c2
        rw [if_pos rfl, if_pos rfl]
        have := W2 a x ka.1 kx (by omega)
        split <;> split <;> omega
      · have kb := hb.resolve_right c2
        have bb := W1 b kb.1
        have bdb := bd b kb.1
        have nb := hno b kb.1
        have hb2 := kb.2
        rw [if_neg c2, if_neg c2]
        have := W2 a b ka.1 kb.1 hab
        split <;> split <;> split <;> split <;> omega
  · dsimp only at h ⊢
    by_cases c : a = s
    · rw [if_pos c] at h ⊢
      rcases hy with hy | hy
      · have := (W3 x kx).1 h y hy.1
        have := hno y hy.1
        have := hy.2
        omega
      · omega
    · have ka := ha.resolve_right c
      rw [if_neg c] at h ⊢
      have ba := W1 a ka.1
      have bda := bd a ka.1
      have na := hno a ka.1
      have ha2 := ka.2
      split at h
      · cases h
      · have n := (W3 a ka.1).1 h
        rcases hy with hy | hy
        · have := n y hy.1
          have := hno y hy.1
          have := hy.2
          split <;> omega
        · have := n x kx
          split <;> omega
  · dsimp only at h ⊢
    by_cases c : a = s
    · subst c
      rw [if_pos rfl] at h
      obtain ⟨c1, c2, c3, c4⟩ := (W3 x kx).2 b h
      have bb := W1 b c1
      have bne := ks b c1
      rw [if_neg bne, if_neg bne, if_neg bne, if_pos rfl, if_neg (show ¬ lo b = x by omega), if_pos c3, if_pos c4]
      exact ⟨Or.inl ⟨c1, by omega⟩, c2, rfl, rfl⟩
    · have ka := ha.resolve_right c
      have ba := W1 a ka.1
      rw [if_neg c] at h ⊢
      split at h
      · rename_i z
        cases h
        obtain ⟨c1, c2, c3, c4⟩ := (W3 a ka.1).2 x z
        rw [if_pos rfl, if_pos rfl, if_pos rfl, if_neg (show ¬ lo a = x by omega)]
        exact ⟨Or.inr rfl, c2, c3, c4⟩
      · rename_i z
        obtain ⟨c1, c2, c3, c4⟩ := (W3 a ka.1).2 b h
        have bne := ks b c1
        have bx2 : b ≠ x := fun e => z (e ▸ h)
        rw [if_neg bne, if_neg bne, if_neg bne, c2, if_neg (show ¬ hi b = x by have := ka.2; omega), if_neg (fun e => ka.2 (Option.some.inj (c4.symm.trans e)))]
        exact ⟨Or.inl ⟨c1, bx2⟩, rfl, c3, c4⟩
  · dsimp only at h ⊢
    by_cases c : a = s
    · rw [if_pos c] at h ⊢
      rcases hy with hy | hy
      · have := (W4 x kx).1 h y hy.1
        have := hno y hy.1
        have := hy.2
        omega
      · omega
    · have ka := ha.resolve_right c
      rw [if_neg c] at h ⊢
      have ba := W1 a ka.1
      have bda := bd a ka.1
      have na := hno a ka.1
      have ha2 := ka.2
      split at h
      · cases h
      · have n := (W4 a ka.1).1 h
        rcases hy with hy | hy
        · have := n y hy.1
          have := hno y hy.1
          have := hy.2
          split <;> omega
        · have := n x kx
          split <;> omega
  · dsimp only at h ⊢
    by_cases c : a = s
    · subst c
      rw [if_pos rfl] at h
      obtain ⟨c1, c2, c3, c4⟩ := (W4 x kx).2 b h
      have bb := W1 b c1
      have bne := ks b c1
      rw [if_neg bne, if_neg bne, if_neg bne, if_pos rfl, if_pos c2, if_neg (show ¬ hi b = x by omega), if_pos c4]
      exact ⟨Or.inl ⟨c1, by omega⟩, rfl, c3, rfl⟩
    · have ka := ha.resolve_right c
      have ba := W1 a ka.1
      rw [if_neg c] at h ⊢
      split at h
      · rename_i z
        cases h
        obtain ⟨c1, c2, c3, c4⟩ := (W4 a ka.1).2 x z
        rw [if_pos rfl, if_pos rfl, if_pos rfl, if_neg (show ¬ hi a = x by omega)]
        exact ⟨Or.inr rfl, c2, c3, c4⟩
      · rename_i z
        obtain ⟨c1, c2, c3, c4⟩ := (W4 a ka.1).2 b h
        have bne := ks b c1
        have bx2 : b ≠ x := fun e => z (e ▸ h)
        rw [if_neg bne, if_neg bne, if_neg bne, c3, if_neg (show ¬ lo b = x by have := ka.2; omega), if_neg (fun e => ka.2 (Option.some.inj (c4.symm.trans e)))]
        exact ⟨Or.inl ⟨c1, bx2⟩, c2, rfl, c4⟩
  · dsimp only at h
    by_cases c : a = s
    · rw [if_pos c] at h
      rw [if_pos ((W5 x kx).1 h), c]
    · have ka := ha.resolve_right c
      rw [if_neg c] at h
      split at h
      · cases h
      · have e := (W5 a ka.1).1 h
        rw [if_neg (fun z => ka.2 (Option.some.inj (e.symm.trans z)))]
        exact e
  · dsimp only at h ⊢
    by_cases c : a = s
    · rw [if_pos c] at h
      obtain ⟨q1, q2⟩ := (W5 x kx).2 q h
      have qx : q ≠ x := fun e => by
        rcases q2 with q2 | q2
        · have := (W3 q q1).2 x q2; omega
        · have := (W4 q q1).2 x q2; omega
      refine ⟨Or.inl ⟨q1, qx⟩, ?_⟩
      rw [if_neg (ks q q1), if_neg (ks q q1), c]
      rcases q2 with q2 | q2
      · left; rw [if_pos q2]
      · right; rw [if_pos q2]
    · have ka := ha.resolve_right c
      rw [if_neg c] at h
      split at h
      · rename_i z
        cases h
        obtain ⟨q1, q2⟩ := (W5 a ka.1).2 x z
        refine ⟨Or.inr rfl, ?_⟩
        rw [if_pos rfl, if_pos rfl]
        exact q2
      · rename_i z
        obtain ⟨q1, q2⟩ := (W5 a ka.1).2 q h
        have qx : q ≠ x := fun e => z (e ▸ h)
        refine ⟨Or.inl ⟨q1, qx⟩, ?_⟩
        rw [if_neg (ks q q1), if_neg (ks q q1)]
        rcases q2 with q2 | q2
        · left; rw [if_neg (fun z => ka.2 (Option.some.inj (q2.symm.trans z)))]; exact q2
        · right; rw [if_neg (fun z => ka.2 (Option.some.inj (q2.symm.trans z)))]; exact q2
  · by_cases c : rt = some x
    · rw [if_pos c] at h; cases h
    · rw [if_neg c] at h
      exact W6 h x kx
  · dsimp only
    by_cases c : rt = some x
    · rw [if_pos c] at h
      cases h
      obtain ⟨r1, r2, r3, r4⟩ := W7 x c
      rw [if_pos rfl, if_pos rfl, if_pos rfl]
      exact ⟨Or.inr rfl, r2, r3, r4⟩
    · rw [if_neg c] at h
      obtain ⟨r1, r2, r3, r4⟩ := W7 r h
      have rx : r ≠ x := fun e => c (e ▸ h)
      have rs := ks r r1
      rw [if_neg rs, if_neg rs, if_neg rs, if_neg (show ¬ lo r = x by omega), if_neg (show ¬ hi r = x by omega), if_neg (fun e => by rw [r4] at e; cases e)]
      exact ⟨Or.inl ⟨r1, rx⟩, r2, r3, r4⟩
end TSd
