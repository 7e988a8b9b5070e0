section
/-! arrive: the two filtering loops in lockstep, X's shift, Y's copy -/
theorem sb_3 : nI 3 = 3 := by decide +kernel
theorem sb_4 : nI 4 = 4 := by decide +kernel
theorem sb_same (f : Nat → Int32) (k : Nat) (x : Int32) : upd f k x k = x := if_pos rfl
theorem sb_other (f : Nat → Int32) {k j : Nat} (x : Int32) (h : j ≠ k) : upd f k x j = f j := if_neg h
/-- X's shift by one place, from the top down, and the new block in front -/
theorem sb_shift (post : Int32 → SX → Prop) (l r f : Int32) (K : Nat) : ∀ k : Nat, k ≤ 3 → ∀ aL aR : Nat → Int32,
    (∀ bL bR : Nat → Int32, bL 0 = l → bR 0 = r → (∀ j, j < k → bL (j + 1) = aL j ∧ bR (j + 1) = aR j) →
      (∀ j, k < j → bL j = aL j ∧ bR j = aR j) → post (nI (K + 1)) (nI (K + 1), bL, bR)) →
    wX_arrive_112 post l r (nI K) f (k + 1) (nI k) aL aR := by
  intro k
  induction k with
  | zero =>
    intro _ aL aR H
    have h : nI 0 ≤ 0 := by decide +kernel
    refine br_t h (nm_e (nm_e (nm_r (nI_1 K) ?_)))
    exact H _ _ (sb_same _ _ _) (sb_same _ _ _) (fun j hj => absurd hj (Nat.not_lt_zero j))
      (fun j hj => ⟨sb_other _ _ (by omega), sb_other _ _ (by omega)⟩)
  | succ k ih =>
    intro hk aL aR H
    have h : ¬ nI (k + 1) ≤ 0 := nI_nle (by omega) (by omega)
    have h0 : vp_in (nI (k + 1) - 1) 4 := by rw [nI_pred]; exact vp_in_nI (by omega) (by omega)
    have h1 : vp_in (nI (k + 1)) 4 := vp_in_nI (by omega) (by omega)
    have e1 : (nI (k + 1)).toNatClampNeg = k + 1 := nI_clamp (by omega)
    have e0 : (nI (k + 1) - 1).toNatClampNeg = k := by rw [nI_pred]; exact nI_clamp (by omega)
    have em : nI (k + 1) + (-1) = nI k := by rw [← nI_pred k, Int32.sub_eq_add_neg]
    refine br_f h ⟨h0, h1, fun a ea => ⟨h0, h1, fun b eb => fun x ex => ?_⟩⟩
    rw [e1, e0] at ea eb
    rw [em] at ex
    subst ea
    subst eb
    subst ex
    refine ih (by omega) _ _ fun bL bR g0 g1 g2 g3 => H bL bR g0 g1 (fun j hj => ?_) (fun j hj => ?_)
    · rcases Nat.lt_or_ge j k with z | z
      · have g := g2 j z
        have o : ∀ (f : Nat → Int32) (x : Int32), upd f (k + 1) x j = f j := fun f x => sb_other f x (by omega)
        rw [o, o] at g
        exact g
      · have e : j = k := by omega
        subst e
        have g := g3 (j + 1) (by omega)
        rw [sb_same, sb_same] at g
        exact g
    · have g := g3 j (by omega)
      have o : ∀ (f : Nat → Int32) (x : Int32), upd f (k + 1) x j = f j := fun f x => sb_other f x (by omega)
      rw [o, o] at g
      exact g
/-- Y's copy of the scratch, c the count that it leaves -/
theorem sb_copy (post : Int32 → SY → Prop) (f : Int32) (K c : Nat) (hc : (K ≤ 4 ∧ c = K) ∨ (K = 5 ∧ c = 4)) (nl nr : Nat → Int32) :
    ∀ d i : Nat, i + d = K → ∀ bL bR : Nat → Int32, (∀ j, j < i → bL j = nl j ∧ bR j = nr j) →
    (∀ cL cR : Nat → Int32, (∀ j, j < K → cL j = nl j ∧ cR j = nr j) → post (nI c) (nI c, cL, cR, nl, nr)) →
    wY_arrive_119 post (nI K) f (d + 1) (nI i) bL bR nl nr := by
  intro d
  induction d with
  | zero =>
    intro i hi bL bR E H
    have hp := H bL bR (fun j hj => E j (by omega))
    refine br_t (nI_le (by omega) (by omega)) ?_
    rcases hc with ⟨h4, e⟩ | ⟨h5, e⟩
    · have h : nI K ≤ 4 := by rw [← sb_4]; exact nI_le h4 (by omega)
      rw [e] at hp
      exact br_t h hp
    · have h : ¬ nI K ≤ 4 := by rw [← sb_4]; exact nI_ge (by omega) (by omega)
      rw [e, sb_4] at hp
      exact br_f h hp
  | succ d ih =>
    intro i hi bL bR E H
    have v : vp_in (nI i) 5 := vp_in_nI (by omega) (by omega)
    have e : (nI i).toNatClampNeg = i := nI_clamp (by omega)
    refine br_f (nI_ge (by omega) (by omega)) ⟨v, v, fun a ea => ⟨v, v, fun b eb => nm_r (nI_1 i) ?_⟩⟩
    rw [e] at ea eb
    subst ea
    subst eb
    refine ih (i + 1) (by omega) _ _ (fun j hj => ?_) H
    rcases Nat.lt_or_ge j i with z | z
    · have o : ∀ (f : Nat → Int32) (x : Int32), upd f i x j = f j := fun f x => sb_other f x (by omega)
      rw [o, o]
      exact E j z
    · have e : j = i := by omega
      subst e
      rw [sb_same, sb_same]
      exact ⟨rfl, rfl⟩
/-- what X asks behind its filtering loop -/
def sb_EX (post : Int32 → SX → Prop) (x1 x2 x3 f : Int32) (aL aR : Nat → Int32) : Prop :=
  (x3 ≤ 3 → ∃ n112 : Nat, wX_arrive_112 post x1 x2 x3 f n112 x3 aL aR) ∧ (¬ x3 ≤ 3 → ∃ n112 : Nat, wX_arrive_112 post x1 x2 3 f n112 3 aL aR)
theorem sb_keepX {post : Int32 → SX → Prop} {m k i n : Nat} {l r : Int32} {aL aR : Nat → Int32} (hm : m ≤ 4) (hi : i < m) (hk : k ≤ i)
    (c : 0 < aL i - r ∨ 0 < l - aR i)
    (H : wX_arrive_13 post (nI m) n l r (nI (k + 1)) (nI (i + 1)) (upd aL k (aL i)) (upd aR k (aR i))) :
    wX_arrive_13 post (nI m) (n + 1) l r (nI k) (nI i) aL aR := by
  have vi : vp_in (nI i) 4 := vp_in_nI (by omega) (by omega)
  have vk : vp_in (nI k) 4 := vp_in_nI (by omega) (by omega)
  have ei : (nI i).toNatClampNeg = i := nI_clamp (by omega)
  have ek : (nI k).toNatClampNeg = k := nI_clamp (by omega)
  have h77 : wX_arrive_77 post (wX_arrive_13 post (nI m) n) l r (nI k) (nI i) (aL i) (aR i) (nI m) aL aR := by
    unfold wX_arrive_77
    rw [ek]
    exact ⟨vk, nm_e ⟨vk, nm_e (nm_r (nI_1 k) (nm_r (nI_1 i) H))⟩⟩
  refine br_f (nI_ge hi (by omega)) ⟨vi, nm_r (congrArg aL ei) ⟨vi, nm_r (congrArg aR ei) ?_⟩⟩
  rcases c with c | c
  · exact br_t c h77
  · exact br_c (fun _ => h77) fun _ => br_t c h77
theorem sb_mergeX {post : Int32 → SX → Prop} {m k i n : Nat} {l r : Int32} {aL aR : Nat → Int32} (hm : m ≤ 4) (hi : i < m)
    (c1 : ¬ 0 < aL i - r) (c2 : ¬ 0 < l - aR i)
    (H : wX_arrive_13 post (nI m) n (if 0 ≤ aL i - l then l else aL i) (if aR i - r ≤ 0 then r else aR i) (nI k) (nI (i + 1)) aL aR) :
    wX_arrive_13 post (nI m) (n + 1) l r (nI k) (nI i) aL aR := by
  have vi : vp_in (nI i) 4 := vp_in_nI (by omega) (by omega)
  have ei : (nI i).toNatClampNeg = i := nI_clamp (by omega)
  have h64 : ∀ l' : Int32, wX_arrive_13 post (nI m) n l' (if aR i - r ≤ 0 then r else aR i) (nI k) (nI (i + 1)) aL aR →
      wX_arrive_64 post (wX_arrive_13 post (nI m) n) l' r (nI k) (nI i) (aR i) (nI m) aL aR := by
    intro l' h
    unfold wX_arrive_64
    refine br_c (fun z => nm_r (nI_1 i) ?_) (fun z => nm_r (nI_1 i) ?_)
    · rw [if_pos z] at h; exact h
    · rw [if_neg z] at h; exact h
  refine br_f (nI_ge hi (by omega)) ⟨vi, nm_r (congrArg aL ei) ⟨vi, nm_r (congrArg aR ei) ?_⟩⟩
  refine br_f c1 (br_f c2 (br_c (fun z => h64 _ ?_) (fun z => h64 _ ?_)))
  · rw [if_pos z] at H; exact H
  · rw [if_neg z] at H; exact H
theorem sb_keepY {post : Int32 → SY → Prop} {m k i n : Nat} {l r : Int32} {bL bR nl nr : Nat → Int32} (hm : m ≤ 4) (hi : i < m) (hk : k ≤ i)
    (c : 0 < bL i - r ∨ 0 < l - bR i)
    (H : wY_arrive_13 post (nI m) n l r (nI (k + 1 + 1)) (nI (i + 1)) bL bR (upd nl (k + 1) (bL i)) (upd nr (k + 1) (bR i))) :
    wY_arrive_13 post (nI m) (n + 1) l r (nI (k + 1)) (nI i) bL bR nl nr := by
  have vi : vp_in (nI i) 5 := vp_in_nI (by omega) (by omega)
  have vk : vp_in (nI (k + 1)) 5 := vp_in_nI (by omega) (by omega)
  have ei : (nI i).toNatClampNeg = i := nI_clamp (by omega)
  have ek : (nI (k + 1)).toNatClampNeg = k + 1 := nI_clamp (by omega)
  have h77 : wY_arrive_77 post (wY_arrive_13 post (nI m) n) l r (nI (k + 1)) (nI i) (bL i) (bR i) (nI m) bL bR nl nr := by
    unfold wY_arrive_77
    rw [ek]
    exact ⟨vk, nm_e ⟨vk, nm_e (nm_r (nI_1 (k + 1)) (nm_r (nI_1 i) H))⟩⟩
  refine br_f (nI_ge hi (by omega)) ⟨vi, nm_r (congrArg bL ei) ⟨vi, nm_r (congrArg bR ei) ?_⟩⟩
  rcases c with c | c
  · exact br_t c h77
  · exact br_c (fun _ => h77) fun _ => br_t c h77
theorem sb_mergeY {post : Int32 → SY → Prop} {m k i n : Nat} {l r : Int32} {bL bR nl nr : Nat → Int32} (hm : m ≤ 4) (hi : i < m)
    (c1 : ¬ 0 < bL i - r) (c2 : ¬ 0 < l - bR i)
    (H : wY_arrive_13 post (nI m) n (if 0 ≤ bL i - l then l else bL i) (if bR i - r ≤ 0 then r else bR i) (nI k) (nI (i + 1)) bL bR nl nr) :
    wY_arrive_13 post (nI m) (n + 1) l r (nI k) (nI i) bL bR nl nr := by
  have vi : vp_in (nI i) 5 := vp_in_nI (by omega) (by omega)
  have ei : (nI i).toNatClampNeg = i := nI_clamp (by omega)
  have h64 : ∀ l' : Int32, wY_arrive_13 post (nI m) n l' (if bR i - r ≤ 0 then r else bR i) (nI k) (nI (i + 1)) bL bR nl nr →
      wY_arrive_64 post (wY_arrive_13 post (nI m) n) l' r (nI k) (nI i) (bR i) (nI m) bL bR nl nr := by
    intro l' h
    unfold wY_arrive_64
    refine br_c (fun z => nm_r (nI_1 i) ?_) (fun z => nm_r (nI_1 i) ?_)
    · rw [if_pos z] at h; exact h
    · rw [if_neg z] at h; exact h
  refine br_f (nI_ge hi (by omega)) ⟨vi, nm_r (congrArg bL ei) ⟨vi, nm_r (congrArg bR ei) ?_⟩⟩
  refine br_f c1 (br_f c2 (br_c (fun z => h64 _ ?_) (fun z => h64 _ ?_)))
  · rw [if_pos z] at H; exact H
  · rw [if_neg z] at H; exact H
/-- the filtering loops in lockstep: one outcome for both -/
theorem sb_loop (m : Nat) (hm : m ≤ 4) (bL bR : Nat → Int32) : ∀ d i : Nat, i + d = m → ∀ (l r : Int32) (k : Nat) (aL aR nl nr : Nat → Int32), k ≤ i →
    (∀ j, i ≤ j → j < m → aL j = bL j ∧ aR j = bR j) → (∀ j, j < k → aL j = nl (j + 1) ∧ aR j = nr (j + 1)) →
    ∃ (l' r' : Int32) (k' : Nat) (aL' aR' nl' nr' : Nat → Int32), k' ≤ m ∧ (∀ j, j < k' → aL' j = nl' (j + 1) ∧ aR' j = nr' (j + 1)) ∧
      (∀ post : Int32 → SX → Prop, sb_EX post l' r' (nI k') (nI m) aL' aR' → wX_arrive_13 post (nI m) (d + 1) l r (nI k) (nI i) aL aR) ∧
      (∀ post : Int32 → SY → Prop, (∃ n119 : Nat, wY_arrive_119 post (nI (k' + 1)) (nI m) n119 0 bL bR (upd nl' 0 l') (upd nr' 0 r')) →
        wY_arrive_13 post (nI m) (d + 1) l r (nI (k + 1)) (nI i) bL bR nl nr) := by
  intro d
  induction d with
  | zero =>
    intro i hi l r k aL aR nl nr hk E N
    have h : nI m ≤ nI i := nI_le (by omega) (by omega)
    exact ⟨l, r, k, aL, aR, nl, nr, by omega, N, fun post hp => br_t h hp, fun post hp => br_t h (nm_e (nm_e hp))⟩
  | succ d ih =>
    intro i hi l r k aL aR nl nr hk E N
    obtain ⟨eL, eR⟩ := E i (Nat.le_refl i) (by omega)
    by_cases c : 0 < aL i - r ∨ 0 < l - aR i
    · obtain ⟨l', r', k', aL', aR', nl', nr', h1, h2, hX, hY⟩ := ih (i + 1) (by omega) l r (k + 1) (upd aL k (aL i)) (upd aR k (aR i))
        (upd nl (k + 1) (bL i)) (upd nr (k + 1) (bR i)) (by omega)
        (fun j hj hj' => by
          rw [sb_other aL (aL i) (show j ≠ k by omega), sb_other aR (aR i) (show j ≠ k by omega)]
          exact E j (by omega) hj')
        (fun j hj => by
          rcases Nat.lt_or_ge j k with z | z
          · rw [sb_other aL (aL i) (show j ≠ k by omega), sb_other aR (aR i) (show j ≠ k by omega),
              sb_other nl (bL i) (show j + 1 ≠ k + 1 by omega), sb_other nr (bR i) (show j + 1 ≠ k + 1 by omega)]
            exact N j z
          · have e : j = k := by omega
            subst e
            rw [sb_same, sb_same, sb_same, sb_same]
            exact ⟨eL, eR⟩)
      refine ⟨l', r', k', aL', aR', nl', nr', h1, h2, fun post hp => sb_keepX hm (by omega) hk c (hX post hp), fun post hp => ?_⟩
      rw [eL, eR] at c
      exact sb_keepY hm (by omega) hk c (hY post hp)
    · have c1 : ¬ 0 < aL i - r := fun z => c (Or.inl z)
      have c2 : ¬ 0 < l - aR i := fun z => c (Or.inr z)
      obtain ⟨l', r', k', aL', aR', nl', nr', h1, h2, hX, hY⟩ := ih (i + 1) (by omega) (if 0 ≤ aL i - l then l else aL i)
        (if aR i - r ≤ 0 then r else aR i) k aL aR nl nr (by omega) (fun j hj hj' => E j (by omega) hj') N
      refine ⟨l', r', k', aL', aR', nl', nr', h1, h2, fun post hp => sb_mergeX hm (by omega) c1 c2 (hX post hp), fun post hp => ?_⟩
      have g := hY post hp
      rw [eL] at c1 g
      rw [eR] at c2 g
      exact sb_mergeY hm (by omega) c1 c2 g
end
section
/-! cumAck: the two loops in lockstep -/
theorem sb_sub {a b : Nat} (h : b ≤ a) : nI a - nI b = nI (a - b) := by
  have e : nI a = nI (a - b) + nI b := by rw [nI_add, Nat.sub_add_cancel h]
  rw [e, Int32.add_sub_cancel]
theorem sb_ack (m : Nat) (hm : m ≤ 4) (a : Int32) (nl nr : Nat → Int32) : ∀ d i : Nat, i + d = m → ∀ (k q : Nat) (aL aR bL bR : Nat → Int32), k + q = i →
    (∀ j, i ≤ j → j < m → aL j = bL j ∧ aR j = bR j) → (∀ j, j < k → aL j = bL j ∧ aR j = bR j) →
    ∃ (k' : Nat) (aL' aR' bL' bR' : Nat → Int32), k' ≤ m ∧ (∀ j, j < k' → aL' j = bL' j ∧ aR' j = bR' j) ∧
      (∀ post : Int32 → SX → Prop, post (nI (m - k')) (nI k', aL', aR') → wX_cumAck_7 post a (nI m) (d + 1) (nI k) (nI q) (nI i) aL aR) ∧
      (∀ post : Int32 → SY → Prop, post (nI (m - k')) (nI k', bL', bR', nl, nr) → wY_cumAck_12 post a (nI m) (d + 1) (nI i) (nI k) bL bR nl nr) := by
  intro d
  induction d with
  | zero =>
    intro i hi k q aL aR bL bR hk E N
    have h : nI m ≤ nI i := nI_le (by omega) (by omega)
    have eq : m - k = q := by omega
    refine ⟨k, aL, aR, bL, bR, by omega, N, fun post hp => br_t h ?_, fun post hp => br_t h ?_⟩
    · rw [eq] at hp; exact hp
    · rw [sb_sub (show k ≤ m by omega)]; exact hp
  | succ d ih =>
    intro i hi k q aL aR bL bR hk E N
    obtain ⟨eL, eR⟩ := E i (Nat.le_refl i) (by omega)
    have h : ¬ nI m ≤ nI i := nI_ge (by omega) (by omega)
    have vi4 : vp_in (nI i) 4 := vp_in_nI (by omega) (by omega)
    have vk4 : vp_in (nI k) 4 := vp_in_nI (by omega) (by omega)
    have vi5 : vp_in (nI i) 5 := vp_in_nI (by omega) (by omega)
    have vk5 : vp_in (nI k) 5 := vp_in_nI (by omega) (by omega)
    have ei : (nI i).toNatClampNeg = i := nI_clamp (by omega)
    have ek : (nI k).toNatClampNeg = k := nI_clamp (by omega)
    by_cases c : 0 < aR i - a
    · obtain ⟨k', aL', aR', bL', bR', h1, h2, hX, hY⟩ := ih (i + 1) (by omega) (k + 1) q (upd aL k (aL i)) (upd aR k (aR i))
        (upd bL k (bL i)) (upd bR k (bR i)) (by omega)
        (fun j hj hj' => by
          rw [sb_other aL (aL i) (show j ≠ k by omega), sb_other aR (aR i) (show j ≠ k by omega),
            sb_other bL (bL i) (show j ≠ k by omega), sb_other bR (bR i) (show j ≠ k by omega)]
          exact E j (by omega) hj')
        (fun j hj => by
          rcases Nat.lt_or_ge j k with z | z
          · rw [sb_other aL (aL i) (show j ≠ k by omega), sb_other aR (aR i) (show j ≠ k by omega),
              sb_other bL (bL i) (show j ≠ k by omega), sb_other bR (bR i) (show j ≠ k by omega)]
            exact N j z
          · have e : j = k := by omega
            subst e
            rw [sb_same, sb_same, sb_same, sb_same]
            exact ⟨eL, eR⟩)
      refine ⟨k', aL', aR', bL', bR', h1, h2, fun post hp => ?_, fun post hp => ?_⟩
      · refine br_f h ⟨vi4, nm_r (congrArg aL ei) ⟨vi4, nm_r (congrArg aR ei) (br_t c ⟨vk4, fun f ef => ⟨vk4, fun g eg => ?_⟩⟩)⟩⟩
        rw [ek] at ef eg
        subst ef
        subst eg
        exact nm_r (nI_1 k) (nm_r (nI_1 i) (hX post hp))
      · have c' : ¬ bR (nI i).toNatClampNeg - a ≤ 0 := by rw [ei, ← eR]; exact Int32.not_le.mpr c
        refine br_f h ⟨vi5, br_f c' ⟨vi5, vk5, fun f ef => ⟨vi5, vk5, fun g eg => ?_⟩⟩⟩
        rw [ek, ei] at ef eg
        subst ef
        subst eg
        exact nm_r (nI_1 k) (nm_r (nI_1 i) (hY post hp))
    · obtain ⟨k', aL', aR', bL', bR', h1, h2, hX, hY⟩ := ih (i + 1) (by omega) k (q + 1) aL aR bL bR (by omega) (fun j hj hj' => E j (by omega) hj') N
      refine ⟨k', aL', aR', bL', bR', h1, h2, fun post hp => ?_, fun post hp => ?_⟩
      · exact br_f h ⟨vi4, nm_r (congrArg aL ei) ⟨vi4, nm_r (congrArg aR ei) (br_f c (nm_r (nI_1 q) (nm_r (nI_1 i) (hX post hp))))⟩⟩
      · have c' : bR (nI i).toNatClampNeg - a ≤ 0 := by rw [ei, ← eR]; exact Int32.not_lt.mp c
        exact br_f h ⟨vi5, br_t c' (nm_r (nI_1 i) (hY post hp))⟩
end
section
/-- the same number of blocks (at most four), and equal blocks below that number; the scratch is free -/
def i_Rel (_ : Nat) (u : SX) (v : SY) : Prop := ∃ (m : Nat) (aL aR bL bR nl nr : Nat → Int32), u = (nI m, aL, aR) ∧ v = (nI m, bL, bR, nl, nr) ∧
  m ≤ 4 ∧ ∀ j, j < m → aL j = bL j ∧ aR j = bR j
theorem i_up {k : Nat} {u : SX} {v : SY} (h : i_Rel k u v) : i_Rel (k + 3) u v := h
theorem i_vc0 : wpX_init (fun u => wpY_init (fun v => i_Rel 0 u v)) :=
  ⟨0, fun _ => 0, fun _ => 0, fun _ => 0, fun _ => 0, fun _ => 0, fun _ => 0, by rw [nI_0], by rw [nI_0], by omega, fun _ _ => ⟨rfl, rfl⟩⟩
theorem i_vc_arrive {k : Nat} {u : SX} {v : SY} (I : i_Rel k u v) (hk : k + 3 ≤ 1536) (v1 : Int32) (v2 : Int32) : wpX_arrive (fun r u' => wpY_arrive (fun r' v' => r' = r ∧ i_Rel (k + 3) u' v') v v1 v2) u v1 v2 := by
  obtain ⟨m, aL, aR, bL, bR, nl, nr, rfl, rfl, hm, E⟩ := I
  by_cases c : 0 < v2 - v1
  · obtain ⟨l, r, q, aL', aR', nl', nr', hq, hN, hX, hY⟩ := sb_loop m hm bL bR m 0 (by omega) v1 v2 0 aL aR nl nr (Nat.le_refl 0)
      (fun j _ hj => E j hj) (fun j hj => absurd hj (Nat.not_lt_zero j))
    have e1 : nI (0 + 1) = 1 := by decide +kernel
    rw [e1, nI_0] at hY
    rw [nI_0] at hX
    have key : ∀ K : Nat, K ≤ q → K ≤ 3 → ((q + 1 ≤ 4 ∧ K + 1 = q + 1) ∨ (q + 1 = 5 ∧ K + 1 = 4)) →
        wX_arrive_112 (fun r u' => wpY_arrive (fun r' v' => r' = r ∧ i_Rel (k + 3) u' v') (nI m, bL, bR, nl, nr) v1 v2) l r (nI K) (nI m) (K + 1) (nI K) aL' aR' := by
      intro K hKq hK3 hK
      refine sb_shift _ l r (nI m) K K hK3 aL' aR' fun cL cR g0 g1 g2 _ => ?_
      refine br_t c ⟨m + 1, hY _ ⟨q + 1 + 1, ?_⟩⟩
      rw [← nI_0]
      refine sb_copy _ (nI m) (q + 1) (K + 1) hK (upd nl' 0 l) (upd nr' 0 r) (q + 1) 0 (by omega) bL bR (fun j hj => absurd hj (Nat.not_lt_zero j)) fun dL dR g => ?_
      refine ⟨rfl, K + 1, cL, cR, dL, dR, upd nl' 0 l, upd nr' 0 r, rfl, rfl, by omega, fun j hj => ?_⟩
      obtain ⟨t1, t2⟩ := g j (by omega)
      rw [t1, t2]
      rcases j with _ | j
      · rw [sb_same, sb_same]; exact ⟨g0, g1⟩
      · rw [sb_other nl' l (show j + 1 ≠ 0 by omega), sb_other nr' r (show j + 1 ≠ 0 by omega), (g2 j (by omega)).1, (g2 j (by omega)).2]
        exact hN j (by omega)
    refine br_t c ⟨m + 1, hX _ ?_⟩
    rcases Nat.lt_or_ge 3 q with z | z
    · have h : ¬ nI q ≤ 3 := by rw [← sb_3]; exact nI_ge z (by omega)
      have g := key 3 (by omega) (by omega) (by omega)
      rw [sb_3] at g
      exact br_f h ⟨_, g⟩
    · have h : nI q ≤ 3 := by rw [← sb_3]; exact nI_le z (by omega)
      exact br_t h ⟨_, key q (by omega) z (by omega)⟩
  · exact br_f c (br_f c ⟨rfl, m, aL, aR, bL, bR, nl, nr, rfl, rfl, hm, E⟩)
theorem i_vc_cumAck {k : Nat} {u : SX} {v : SY} (I : i_Rel k u v) (hk : k + 3 ≤ 1536) (v1 : Int32) : wpX_cumAck (fun r u' => wpY_cumAck (fun r' v' => r' = r ∧ i_Rel (k + 3) u' v') v v1) u v1 := by
  obtain ⟨m, aL, aR, bL, bR, nl, nr, rfl, rfl, hm, E⟩ := I
  obtain ⟨q, aL', aR', bL', bR', hq, hN, hX, hY⟩ := sb_ack m hm v1 nl nr m 0 (by omega) 0 0 aL aR bL bR rfl
    (fun j _ hj => E j hj) (fun j hj => absurd hj (Nat.not_lt_zero j))
  rw [nI_0] at hX hY
  exact ⟨m + 1, hX _ ⟨m + 1, hY _ ⟨rfl, q, aL', aR', bL', bR', nl, nr, rfl, rfl, by omega, hN⟩⟩⟩
theorem i_vc_block {k : Nat} {u : SX} {v : SY} (I : i_Rel k u v) (hk : k + 3 ≤ 1536) (v1 : Int32) : wpX_block (fun r => wpY_block (fun r' => r' = r ∧ i_Rel (k + 3) u v) v v1) u v1 := by
  have I' : i_Rel (k + 3) u v := i_up I
  obtain ⟨m, aL, aR, bL, bR, nl, nr, rfl, rfl, hm, E⟩ := I
  by_cases h0 : v1 < 0
  · exact br_t h0 (br_t h0 ⟨rfl, I'⟩)
  · by_cases h1 : v1 < nI m
    · obtain ⟨j, hj, rfl⟩ := nI_of h0
      have hjm : j < m := (nI_ltI hj (by omega)).mp h1
      have v4 : vp_in (nI j) 4 := vp_in_nI (by omega) (by omega)
      have v5 : vp_in (nI j) 5 := vp_in_nI (by omega) (by omega)
      obtain ⟨eL, eR⟩ := E j hjm
      refine br_f h0 (br_t h1 ⟨v4, v4, br_f h0 (br_t h1 ⟨v5, v5, ?_, I'⟩)⟩)
      rw [nI_clamp hj, eL, eR]
    · exact br_f h0 (br_f h1 (br_f h0 (br_f h1 ⟨rfl, I'⟩)))
theorem i_vc_count {k : Nat} {u : SX} {v : SY} (I : i_Rel k u v) (hk : k + 3 ≤ 1536) : wpX_count (fun r => wpY_count (fun r' => r' = r ∧ i_Rel (k + 3) u v) v) u := by
  have I' : i_Rel (k + 3) u v := i_up I
  obtain ⟨m, aL, aR, bL, bR, nl, nr, rfl, rfl, hm, E⟩ := I
  exact ⟨rfl, I'⟩
end
