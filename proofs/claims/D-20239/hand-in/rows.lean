section
/-! The two 'twins' methods over a list of boxes, against three pure counts. -/
/-- a value for each address: chosen once, so that one address has one value -/
noncomputable def tw_val (LP : List Nat) (p : Nat → Int32) (ad : Nat → Nat) (y : Nat) : Int32 := Classical.epsilon (fun v => vb_bx LP p ad y v)
theorem tw_val_bx {LP : List Nat} {p : Nat → Int32} {ad : Nat → Nat} {y : Nat} (h : vb_bm LP ad y) : vb_bx LP p ad y (tw_val LP p ad y) := by
  have hx : ∃ v, vb_bx LP p ad y v := by
    rcases h with h | ⟨k, hk, e⟩
    · exact ⟨p y, Or.inl ⟨h, rfl⟩⟩
    · exact ⟨vb_c k, Or.inr ⟨k, hk, e, rfl⟩⟩
  exact Classical.epsilon_spec hx
/-- of the first k pairs of neighbours: equal in value, but two objects -/
def tw_w (Y : Nat → Nat) (V : Nat → Int32) : Nat → Int32
  | 0 => 0
  | k + 1 => if Y k ≠ Y (k + 1) ∧ V (Y k) = V (Y (k + 1)) then tw_w Y V k + 1 else tw_w Y V k
/-- one object -/
def tw_s (Y : Nat → Nat) : Nat → Int32
  | 0 => 0
  | k + 1 => if Y k = Y (k + 1) then tw_s Y k + 1 else tw_s Y k
/-- equal in value -/
def tw_v (Y : Nat → Nat) (V : Nat → Int32) : Nat → Int32
  | 0 => 0
  | k + 1 => if V (Y k) = V (Y (k + 1)) then tw_v Y V k + 1 else tw_v Y V k
theorem tw_i1 (v s : Int32) : v - s = (v + 1) - (s + 1) := by grind
theorem tw_i2 (v s : Int32) : (v - s) + 1 = (v + 1) - s := by grind
/-- the law in plain: the component's count is the twin's difference -/
theorem tw_law (Y : Nat → Nat) (V : Nat → Int32) : ∀ k, tw_w Y V k = tw_v Y V k - tw_s Y k := by
  intro k
  induction k with
  | zero => show (0 : Int32) = 0 - 0; decide
  | succ k ih =>
    by_cases h1 : Y k = Y (k + 1)
    · have h2 : V (Y k) = V (Y (k + 1)) := by rw [h1]
      simp only [tw_w, tw_v, tw_s]
      rw [if_neg (fun z => z.1 h1), if_pos h2, if_pos h1, ih]
      exact tw_i1 _ _
    · by_cases h2 : V (Y k) = V (Y (k + 1))
      · simp only [tw_w, tw_v, tw_s]
        rw [if_pos ⟨h1, h2⟩, if_pos h2, if_neg h1, ih]
        exact tw_i2 _ _
      · simp only [tw_w, tw_v, tw_s]
        rw [if_neg (fun z => h2 z.2), if_neg h2, if_neg h1, ih]
/-- the list's picture: below c its places hold boxes Y, whose values V are known by address -/
def tw_L (LP : List Nat) (p : Nat → Int32) (ad : Nat → Nat) (a : Nat → Option Nat) (Y : Nat → Nat) (V : Nat → Int32) (c : Nat) : Prop := ∀ k, k < c → a k = some (Y k) ∧ vb_bx LP p ad (Y k) (V (Y k))
/-- get(k) -/
theorem tw_get {post : Option Nat → Prop} {adB : Nat → Nat} {mod : Int32} {c n k y : Nat} {a : Nat → Option Nat} {LP : List Nat} {p : Nat → Int32} (ha : a k = some y) (hk : k < c) (hcn : c ≤ n) (hn : n < 2 ^ 31) (h : post (some y)) :
    wpJx4a65c_get_915e3_e1769 post adB (mod, nI c, a, n, LP, p) (nI k) := by
  have hc : a (nI k).toNatClampNeg = some y := by rw [nI_clamp (by omega)]; exact ha
  refine ⟨fun z => absurd z (nI_pos (by omega)), fun _ => ⟨fun _ => ?_, fun z => absurd (nI_lt hk (by omega)) z⟩⟩
  refine ⟨vp_in_nI (by omega) hn, fun z => absurd (z.symm.trans hc) (by simp), fun y2 e2 => ?_⟩
  cases e2.symm.trans hc
  refine ⟨fun z => (by cases z), fun y3 e3 => ?_⟩
  cases e3
  exact h
/-- the component's loop behind 'same': z0 against 'equal' -/
theorem tw_38 {post : Int32 → Prop} {adB : Nat → Nat} {J : Int32 → Int32 → Prop} {x1 z0 mod : Int32} {c n k y1 y2 : Nat} {a : Nat → Option Nat} {LP : List Nat} {p : Nat → Int32} {v1 v2 : Int32}
    (h1 : a k = some y1) (h2 : a (k + 1) = some y2) (b1 : vb_bx LP p adB y1 v1) (b2 : vb_bx LP p adB y2 v2) (hk : k + 1 < c) (hcn : c ≤ n) (hn : n < 2 ^ 31)
    (hs : z0 = (if v1 = v2 then 1 else 0) → J x1 (nI (k + 2))) (hd : ¬ z0 = (if v1 = v2 then 1 else 0) → J (x1 + 1) (nI (k + 2))) :
    wX0_twins_2_38 post adB J x1 (nI (k + 1)) z0 mod (nI c) a n LP p := by
  unfold wX0_twins_2_38
  rw [nI_pred]
  refine tw_get h1 (by omega) hcn hn ⟨fun z => (by cases z), fun y e => ?_⟩
  cases e
  refine ⟨b1.bm, tw_get h2 hk hcn hn ⟨fun z => (by cases z), fun y e => ?_⟩⟩
  cases e
  refine ⟨b2.bm, v1, b1, v2, b2, fun e => ?_, fun e => ?_⟩
  · rw [if_pos e] at hs hd
    refine ⟨fun g => nm_r (nI_1 (k + 1)) (hs g), fun g => nm_e (nm_r (nI_1 (k + 1)) (hd g))⟩
  · rw [if_neg e] at hs hd
    refine ⟨fun g => nm_r (nI_1 (k + 1)) (hs g), fun g => nm_e (nm_r (nI_1 (k + 1)) (hd g))⟩
/-- the component's loop -/
theorem tw_4 {post : Int32 → Prop} {adB : Nat → Nat} {mod : Int32} {c n : Nat} {a : Nat → Option Nat} {LP : List Nat} {p : Nat → Int32} {Y : Nat → Nat} {V : Nat → Int32} (hL : tw_L LP p adB a Y V c) (hcn : c ≤ n) (hn : n < 2 ^ 30) (hp : post (tw_w Y V (c - 1))) :
    ∀ m k : Nat, k ≤ c - 1 → c - 1 < m + k → wX0_twins_2_4 post adB mod (nI c) a n LP p m (tw_w Y V k) (nI (k + 1)) := by
  intro m
  induction m with
  | zero => intro k h1 h2; omega
  | succ m ih =>
    intro k h1 h2
    by_cases hk : k = c - 1
    · subst hk
      exact ⟨fun _ => hp, fun z => absurd (nI_le (a := c) (b := c - 1 + 1) (by omega) (by omega)) z⟩
    · obtain ⟨a1, b1⟩ := hL k (by omega)
      obtain ⟨a2, b2⟩ := hL (k + 1) (by omega)
      have hi := ih (k + 1) (by omega) (by omega)
      refine ⟨fun z => absurd z (nI_ge (by omega) (by omega)), fun _ => ?_⟩
      show wpJx4a65c_get_915e3_e1769 _ adB (mod, nI c, a, n, LP, p) (nI (k + 1) - 1)
      rw [nI_pred]
      refine tw_get a1 (by omega) hcn (by omega) ⟨fun z => (by cases z), fun y e => ?_⟩
      cases e
      refine tw_get a2 (by omega) hcn (by omega) ⟨fun z => (by cases z), fun y e => ?_⟩
      cases e
      refine ⟨fun same => ?_, fun other => ?_⟩
      · have hv : V (Y k) = V (Y (k + 1)) := by rw [same]
        have hw : tw_w Y V (k + 1) = tw_w Y V k := by
          simp only [tw_w]
          rw [if_neg (fun z => z.1 same)]
        rw [hw] at hi
        refine tw_38 a1 a2 b1 b2 (by omega) hcn (by omega) (fun _ => hi) (fun z => absurd ?_ z)
        rw [if_pos hv]
      · by_cases hv : V (Y k) = V (Y (k + 1))
        · have hw : tw_w Y V (k + 1) = tw_w Y V k + 1 := by
            simp only [tw_w]
            rw [if_pos ⟨other, hv⟩]
          rw [hw] at hi
          refine tw_38 a1 a2 b1 b2 (by omega) hcn (by omega) (fun z => absurd z ?_) (fun _ => hi)
          rw [if_pos hv]
          decide
        · have hw : tw_w Y V (k + 1) = tw_w Y V k := by
            simp only [tw_w]
            rw [if_neg (fun z => hv z.2)]
          rw [hw] at hi
          refine tw_38 a1 a2 b1 b2 (by omega) hcn (by omega) (fun _ => hi) (fun z => absurd ?_ z)
          rw [if_neg hv]
theorem tw_X0 {post : Int32 → Prop} {adB : Nat → Nat} {mod : Int32} {c n : Nat} {a : Nat → Option Nat} {LP : List Nat} {p : Nat → Int32} {Y : Nat → Nat} {V : Nat → Int32} (hL : tw_L LP p adB a Y V c) (hcn : c ≤ n) (hn : n < 2 ^ 30) (hp : post (tw_w Y V (c - 1))) :
    wpX0_twins_2 post adB (mod, nI c, a, n, LP, p) :=
  ⟨c - 1 + 1, tw_4 hL hcn hn hp (c - 1 + 1) 0 (Nat.zero_le _) (by omega)⟩
/-- the twin's loop behind 'one object' -/
theorem tw_52 {post : Int32 → Prop} {adB : Nat → Nat} {J : Int32 → Int32 → Int32 → Prop} {x1 x2 mod : Int32} {c n k y1 y2 : Nat} {a : Nat → Option Nat} {LP : List Nat} {p : Nat → Int32} {v1 v2 : Int32}
    (b1 : vb_bx LP p adB y1 v1) (b2 : vb_bx LP p adB y2 v2) (hs : v1 = v2 → J x1 (x2 + 1) (nI (k + 2))) (hd : ¬ v1 = v2 → J x1 x2 (nI (k + 2))) :
    wX1_twins_2_52_4 post adB J x1 x2 (nI (k + 1)) y1 y2 mod (nI c) a n LP p := by
  refine ⟨b1.bm, v1, b1, b2.bm, v2, b2, fun e => nm_e (nm_r (nI_1 (k + 1)) (hs e)), fun e => nm_r (nI_1 (k + 1)) (hd e)⟩
/-- the twin's loop -/
theorem tw_6 {post : Int32 → Prop} {adB : Nat → Nat} {mod : Int32} {c n : Nat} {a : Nat → Option Nat} {LP : List Nat} {p : Nat → Int32} {Y : Nat → Nat} {V : Nat → Int32} (hL : tw_L LP p adB a Y V c) (hcn : c ≤ n) (hn : n < 2 ^ 30) (hp : post (tw_v Y V (c - 1) - tw_s Y (c - 1))) :
    ∀ m k : Nat, k ≤ c - 1 → c - 1 < m + k → wX1_twins_2_6 post adB mod (nI c) a n LP p m (tw_s Y k) (tw_v Y V k) (nI (k + 1)) := by
  intro m
  induction m with
  | zero => intro k h1 h2; omega
  | succ m ih =>
    intro k h1 h2
    by_cases hk : k = c - 1
    · subst hk
      exact ⟨fun _ => hp, fun z => absurd (nI_le (a := c) (b := c - 1 + 1) (by omega) (by omega)) z⟩
    · obtain ⟨a1, b1⟩ := hL k (by omega)
      obtain ⟨a2, b2⟩ := hL (k + 1) (by omega)
      have hi := ih (k + 1) (by omega) (by omega)
      have hv1 : V (Y k) = V (Y (k + 1)) → tw_v Y V (k + 1) = tw_v Y V k + 1 := fun e => by
        simp only [tw_v]
        rw [if_pos e]
      have hv0 : ¬ V (Y k) = V (Y (k + 1)) → tw_v Y V (k + 1) = tw_v Y V k := fun e => by
        simp only [tw_v]
        rw [if_neg e]
      refine ⟨fun z => absurd z (nI_ge (by omega) (by omega)), fun _ => ?_⟩
      show wpJx4a65c_get_915e3_e1769 _ adB (mod, nI c, a, n, LP, p) (nI (k + 1) - 1)
      rw [nI_pred]
      refine tw_get a1 (by omega) hcn (by omega) ⟨fun z => (by cases z), fun y e => ?_⟩
      cases e
      refine ⟨b1.bm, tw_get a2 (by omega) hcn (by omega) ⟨fun z => (by cases z), fun y e => ?_⟩⟩
      cases e
      refine ⟨b2.bm, fun same x1 ex => ?_, fun other => ?_⟩
      · subst ex
        have hs : tw_s Y (k + 1) = tw_s Y k + 1 := by
          simp only [tw_s]
          rw [if_pos same]
        rw [hs] at hi
        exact tw_52 b1 b2 (fun e => by rw [hv1 e] at hi; exact hi) (fun e => by rw [hv0 e] at hi; exact hi)
      · have hs : tw_s Y (k + 1) = tw_s Y k := by
          simp only [tw_s]
          rw [if_neg other]
        rw [hs] at hi
        exact tw_52 b1 b2 (fun e => by rw [hv1 e] at hi; exact hi) (fun e => by rw [hv0 e] at hi; exact hi)
theorem tw_X1 {post : Int32 → Prop} {adB : Nat → Nat} {mod : Int32} {c n : Nat} {a : Nat → Option Nat} {LP : List Nat} {p : Nat → Int32} {Y : Nat → Nat} {V : Nat → Int32} (hL : tw_L LP p adB a Y V c) (hcn : c ≤ n) (hn : n < 2 ^ 30) (hp : post (tw_v Y V (c - 1) - tw_s Y (c - 1))) :
    wpX1_twins_2 post adB (mod, nI c, a, n, LP, p) :=
  ⟨c - 1 + 1, tw_6 hL hcn hn hp (c - 1 + 1) 0 (Nat.zero_le _) (by omega)⟩
end
section
/-! The law: boxes are made, the list is filled, the two counts agree. -/
/-- Integer.valueOf: a box, old or new; old ones stay -/
theorem tl_valueOf {post : Option Nat → StJd1a94 → Prop} {mc ms : Nat} {adB : Nat → Nat} {LP : List Nat} {p : Nat → Int32} (v : Int32) (hm : 1 ≤ mc) (hs : 1 ≤ ms)
    (h : ∀ y LP' p', vb_bm LP' adB y → (∀ z, vb_bm LP adB z → vb_bm LP' adB z) → post (some y) (LP', p')) : wpJ6_valueOf_2dffe_e41c5 post mc ms adB (LP, p) v := by
  have key : wJ6_valueOf_2dffe_e41c5_23 post mc ms adB v 0 0 LP p := by
    refine ⟨by omega, by omega, fun q hq => ⟨Or.inl (cm_last LP q), ?_⟩⟩
    refine ⟨cm_last LP q, h q _ _ (Or.inl (cm_last LP q)) (fun z hz => ?_)⟩
    rcases hz with hz | hz
    · exact Or.inl (List.mem_append.mpr (Or.inl hz))
    · exact Or.inr hz
  refine ⟨fun _ => key, fun h1 => ⟨fun _ => key, fun h2 => ?_⟩⟩
  obtain ⟨j, hj, e, ev⟩ := bx_small h1 h2
  rw [e, nI_clamp (by omega)]
  exact ⟨vp_in_nI hj (by omega), h _ _ _ (Or.inr ⟨j, hj, rfl⟩) (fun z hz => hz)⟩
/-- below c the array holds boxes -/
def tl_ok (LP : List Nat) (ad : Nat → Nat) (a : Nat → Option Nat) (c : Nat) : Prop := ∀ k, k < c → ∃ y, a k = some y ∧ vb_bm LP ad y
theorem tl_ok_0 {LP : List Nat} {ad : Nat → Nat} {a : Nat → Option Nat} : tl_ok LP ad a 0 := fun k h => absurd h (by omega)
theorem tl_ok_keep {LP LP' : List Nat} {ad : Nat → Nat} {a : Nat → Option Nat} {c : Nat} (h : tl_ok LP ad a c) (hk : ∀ z, vb_bm LP ad z → vb_bm LP' ad z) : tl_ok LP' ad a c := fun k hc => by
  obtain ⟨y, ha, hy⟩ := h k hc
  exact ⟨y, ha, hk y hy⟩
theorem tl_ok_add {LP : List Nat} {ad : Nat → Nat} {a : Nat → Option Nat} {c y : Nat} (h : tl_ok LP ad a c) (hy : vb_bm LP ad y) : tl_ok LP ad (va_up a c (some y)) (c + 1) := fun k hc => by
  by_cases e : k = c
  · subst e
    exact ⟨y, va_up_self _ _ _, hy⟩
  · obtain ⟨z, ha, hz⟩ := h k (by omega)
    exact ⟨z, (va_up_ne _ _ e).trans ha, hz⟩
/-- the picture that the two methods want -/
theorem tl_pic {LP : List Nat} {p : Nat → Int32} {ad : Nat → Nat} {a : Nat → Option Nat} {c : Nat} (h : tl_ok LP ad a c) : tw_L LP p ad a (fun k => (a k).getD 0) (tw_val LP p ad) c := fun k hc => by
  obtain ⟨y, ha, hy⟩ := h k hc
  have e : (a k).getD 0 = y := by rw [ha]; rfl
  refine ⟨?_, ?_⟩
  · show a k = some ((a k).getD 0)
    rw [e]
    exact ha
  · show vb_bx LP p ad ((a k).getD 0) (tw_val LP p ad ((a k).getD 0))
    rw [e]
    exact tw_val_bx hy
/-- the law's last row: the two methods agree -/
theorem tl_end {post : Int32 → St1 → Prop} {adB : Nat → Nat} {mod : Int32} {c n : Nat} {a : Nat → Option Nat} {LP : List Nat} {p : Nat → Int32} (h : tl_ok LP adB a c) (hcn : c ≤ n) (hn : n < 2 ^ 30) (hp : post 1 (LP, p)) :
    wpX0_twins_2 (fun r_188 => (wpX1_twins_2 (fun r_189 => (((r_188 = r_189 → (post 1 (LP, p))) ∧ (¬ r_188 = r_189 → (post 0 (LP, p)))))) adB (mod, nI c, a, n, LP, p))) adB (mod, nI c, a, n, LP, p) :=
  tw_X0 (tl_pic (p := p) h) hcn hn (tw_X1 (tl_pic (p := p) h) hcn hn ⟨fun _ => hp, fun z => absurd (tw_law _ _ _) z⟩)
/-- add on a list that has its array -/
theorem tl_708 {post : Int32 → St1 → Prop} {mc ms : Nat} {adB : Nat → Nat} {J} {x0 x1 x2 x6 mod : Int32} {i n y4 y kc ks : Nat} {a : Nat → Option Nat} {LP : List Nat} {p : Nat → Int32} (hy : vb_bm LP adB y) (hi : i < n) (hn : n < 2 ^ 30) (hk : kc ≤ mc) (hs : ks ≤ ms)
    (hJ : J (.inr (.inr (.inr (x0, x1, x2, x6, nI (i + 1), y4, kc, ks, mod + 1, nI (i + 1), va_up a i (some y), n, LP, p))))) :
    wL_lawOf_70_8 post mc ms adB J x0 x1 x2 x6 (nI i) y4 y kc ks mod (nI i) a n LP p := by
  refine ⟨0, 0, by omega, by omega, fun f ef => ⟨0, 0, by omega, by omega, ?_⟩⟩
  refine ⟨fun z => absurd ((nI_eq (a := i) (b := n) (by omega) (by omega)).mp z) (by omega), fun _ => ⟨vp_in_nI hi (by omega), hy, fun a' ea g eg => ?_⟩⟩
  rw [nI_clamp (by omega)] at ea
  have eg' : g = nI (i + 1) := eg.trans (nI_1 i)
  subst ea eg' ef
  exact nm_r (nI_1 i) hJ
/-- the first add: the array of ten is made -/
theorem tl_704 {post : Int32 → St1 → Prop} {mc ms : Nat} {adB : Nat → Nat} {J} {x0 x1 x2 x6 mod : Int32} {y4 y kc ks : Nat} {LP : List Nat} {p : Nat → Int32} (hy : vb_bm LP adB y) (hk : kc + 1 ≤ mc) (hs : ks + 10 ≤ ms)
    (hJ : J (.inr (.inr (.inr (x0, x1, x2, x6, nI 1, y4, kc + 1, ks + 10, mod + 1, nI 1, va_up (fun _ => none) 0 (some y), 10, LP, p))))) :
    wL_lawOf_70_4 post mc ms adB J x0 x1 x2 x6 0 y4 y kc ks mod 0 LP p := by
  refine ⟨1, 10, hk, hs, fun f ef => ⟨1, 10, by omega, by omega, ⟨fun _ => ⟨1, 10, by omega, by omega, 1, 10, by omega, by omega, by decide, fun n en => ?_⟩, fun z => absurd rfl z⟩⟩⟩
  have en' : n = 10 := en.trans (by decide)
  subst en'
  refine ⟨by decide, by decide, by decide, vp_in_nI (n := 0) (by omega) (by omega), hy, fun a' ea g eg => ?_⟩
  have ea' : a' = va_up (fun _ => none) 0 (some y) := ea
  have eg' : g = nI 1 := eg.trans (by decide)
  subst ea' eg' ef
  exact nm_r (e' := nI 1) (by decide) hJ
/-- the law's loop, behind the first turn -/
theorem tl_24 {post : Int32 → St1 → Prop} {adB : Nat → Nat} {x0 x1 x2 : Int32} {m y4 : Nat} (hp : ∀ u, post 1 u) (hm : m < 8) : ∀ (n i kc ks : Nat) (mod : Int32) (a : Nat → Option Nat) (LP : List Nat) (p : Nat → Int32), i ≤ m → m < n + i → kc ≤ 4 + i → ks ≤ 20 + i → vb_bm LP adB y4 → tl_ok LP adB a i →
    wL_lawOf_24 post 13 208 adB n (.inr (.inr (.inr (x0, x1, x2, nI m, nI i, y4, kc, ks, mod, nI i, a, 10, LP, p)))) := by
  intro n
  induction n with
  | zero => intro i kc ks mod a LP p h1 h2; omega
  | succ n ih =>
    intro i kc ks mod a LP p h1 h2 h3 h4 h5 h6
    by_cases hi : i = m
    · subst hi
      exact ⟨fun _ => tl_end h6 (by omega) (by omega) (hp _), fun z => absurd (nI_le (Nat.le_refl i) (by omega)) z⟩
    · refine ⟨fun z => absurd z (nI_ge (by omega) (by omega)), fun _ x8 _ => ⟨fun _ => ?_, fun _ => ⟨fun _ => ?_, fun _ => ?_⟩⟩⟩
      · exact tl_708 h5 (by omega) (by omega) (by omega) (by omega) (ih (i + 1) _ _ _ _ _ _ (by omega) (by omega) (by omega) (by omega) h5 (tl_ok_add h6 h5))
      · refine ⟨1, 1, by omega, by omega, tl_valueOf _ (Nat.le_refl _) (Nat.le_refl _) fun y LP' p' hy hk => ⟨fun z => (by cases z), fun y2 e2 => ?_⟩⟩
        cases e2
        exact tl_708 hy (by omega) (by omega) (by omega) (by omega) (ih (i + 1) _ _ _ _ _ _ (by omega) (by omega) (by omega) (by omega) (hk _ h5) (tl_ok_add (tl_ok_keep h6 hk) hy))
      · refine ⟨1, 1, by omega, by omega, tl_valueOf _ (Nat.le_refl _) (Nat.le_refl _) fun y LP' p' hy hk => ⟨fun z => (by cases z), fun y2 e2 => ?_⟩⟩
        cases e2
        exact tl_708 hy (by omega) (by omega) (by omega) (by omega) (ih (i + 1) _ _ _ _ _ _ (by omega) (by omega) (by omega) (by omega) (hk _ h5) (tl_ok_add (tl_ok_keep h6 hk) hy))
/-- .. and from its start -/
theorem tl_start {post : Int32 → St1 → Prop} {adB : Nat → Nat} {x0 x1 x2 mod : Int32} {m y4 kc ks : Nat} {LP : List Nat} {p : Nat → Int32} (hp : ∀ u, post 1 u) (hm : m < 8) (h3 : kc ≤ 3) (h4 : ks ≤ 8) (h5 : vb_bm LP adB y4) :
    wL_lawOf_24 post 13 208 adB (m + 1) (.inr (.inl (x0, x1, x2, nI m, 0, y4, kc, ks, mod, 0, LP, p))) := by
  by_cases h : m = 0
  · subst h
    refine ⟨fun _ => ?_, fun z => absurd (nI_le (a := 0) (b := 0) (Nat.le_refl 0) (by omega)) z⟩
    refine ⟨1, ⟨fun _ => ⟨1, ⟨fun _ => ⟨fun _ => hp _, fun z => absurd (by decide) z⟩, fun z => absurd (by decide) z⟩⟩, fun z => absurd (by decide) z⟩⟩
  · refine ⟨fun z => absurd z (nI_nle (by omega) (by omega)), fun _ x8 _ => ⟨fun _ => ?_, fun _ => ⟨fun _ => ?_, fun _ => ?_⟩⟩⟩
    · exact tl_704 h5 (by omega) (by omega) (tl_24 hp hm m 1 _ _ _ _ _ _ (by omega) (by omega) (by omega) (by omega) h5 (tl_ok_add tl_ok_0 h5))
    · refine ⟨1, 1, by omega, by omega, tl_valueOf _ (Nat.le_refl _) (Nat.le_refl _) fun y LP' p' hy hk => ⟨fun z => (by cases z), fun y2 e2 => ?_⟩⟩
      cases e2
      exact tl_704 hy (by omega) (by omega) (tl_24 hp hm m 1 _ _ _ _ _ _ (by omega) (by omega) (by omega) (by omega) (hk _ h5) (tl_ok_add tl_ok_0 hy))
    · refine ⟨1, 1, by omega, by omega, tl_valueOf _ (Nat.le_refl _) (Nat.le_refl _) fun y LP' p' hy hk => ⟨fun z => (by cases z), fun y2 e2 => ?_⟩⟩
      cases e2
      exact tl_704 hy (by omega) (by omega) (tl_24 hp hm m 1 _ _ _ _ _ _ (by omega) (by omega) (by omega) (by omega) (hk _ h5) (tl_ok_add tl_ok_0 hy))
/-- lawOf -/
theorem tl_lawOf {post : Int32 → St1 → Prop} {adB : Nat → Nat} {LP : List Nat} {p : Nat → Int32} (p0 p1 p2 p3 : Int32) (hp : ∀ u, post 1 u) : wpL_lawOf post 13 208 adB (LP, p) p0 p1 p2 p3 := by
  obtain ⟨m, hm, em⟩ := pk_andE p3 (m := 7) 3 (by decide)
  refine ⟨1, 1, by omega, by omega, tl_valueOf _ (Nat.le_refl _) (Nat.le_refl _) fun y LP' p' hy hk => ⟨fun z => (by cases z), fun y2 e2 => ?_⟩⟩
  cases e2
  refine ⟨by omega, by omega, nm_r em ⟨m + 1, ?_⟩⟩
  exact tl_start hp (by omega) (by omega) (by omega) hy
/-- cellAt: any answer will do -/
theorem tl_cellAt {post : Int32 → Prop} {L : Nat} {xs : Nat → Int32} (k : Nat) (hL : L ≤ 4) (hk : k < 4) (h : ∀ r, post r) : wpL_cellAt post L xs () (nI k) := by
  refine ⟨fun _ => h _, fun z => ⟨?_, h _⟩⟩
  have hz : ¬ nI L ≤ nI k := z
  exact vp_in_nI (Nat.lt_of_not_le fun g => hz (nI_le g (by omega))) (by omega)
theorem i_vc (xs : Nat → Int32) (L : Nat) (hL : L ≤ 4) : wpL_law (fun r => r = 1) L xs := by
  intro adB
  refine tl_cellAt 0 hL (by omega) fun r1 => tl_cellAt 1 hL (by omega) fun r2 => tl_cellAt 2 hL (by omega) fun r3 => tl_cellAt 3 hL (by omega) fun r4 => ⟨13, 208, by omega, by omega, ?_⟩
  exact tl_lawOf r1 r2 r3 r4 (fun u => rfl)
end
