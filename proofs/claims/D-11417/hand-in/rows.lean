section
/-- the picture: what lies about each of the five points of space 1 -/
def ps_P (a1 T : Nat → Int32) : Prop := ∀ i, i < 5 → a1 (5 + i) = T i
/-- a point's bit in a set -/
def ps_bt (s : Int32) (x : Nat) : Int32 := (s >>> (nI x &&& 31)) &&& 1
/-- the set of one point -/
def ps_1 (x : Nat) : Int32 := (1 : Int32) <<< (nI x &&& 31)
theorem ps_ix (i : Nat) : (5 : Int32) * 1 + nI i = nI (5 + i) := by
  have e : (5 : Int32) * 1 = nI 5 := by decide
  rw [e, nI_add]
theorem ps_ixc {i : Nat} (hi : i < 5) : ((5 : Int32) * 1 + nI i).toNatClampNeg = 5 + i := by
  rw [ps_ix, nI_clamp (by omega)]
theorem ps_ixi {i : Nat} (hi : i < 5) : vp_in ((5 : Int32) * 1 + nI i) 20 := by
  rw [ps_ix]
  exact vp_in_nI (by omega) (by decide)
theorem ps_iy (i : Nat) : (15 : Int32) + nI i = nI (15 + i) := nI_add 15 i
theorem ps_iyc {i : Nat} (hi : i < 5) : ((15 : Int32) + nI i).toNatClampNeg = 15 + i := by
  rw [ps_iy, nI_clamp (by omega)]
theorem ps_iyi {i : Nat} (hi : i < 5) : vp_in ((15 : Int32) + nI i) 20 := by
  rw [ps_iy]
  exact vp_in_nI (by omega) (by decide)
theorem ps_nx {m k : Nat} (h : k + 1 ≤ m) : nI (m - (k + 1)) + 1 = nI (m - k) := by
  rw [nI_1, show m - (k + 1) + 1 = m - k by omega]
theorem ps_space {post : Int32 → Prop} (h : post 1) : wpX_isSpace post () 1 :=
  br_f (by decide) (br_f (by decide) h)
theorem ps_about {post : Int32 → Prop} {a1 a2 a3 T : Nat → Int32} (hP : ps_P a1 T) {i : Nat} (hi : i < 5) (h : post (T i)) : wpX_about post (a1, a2, a3) 1 (nI i) := by
  show vp_in ((5 : Int32) * 1 + nI i) 20 ∧ post (a1 ((5 : Int32) * 1 + nI i).toNatClampNeg)
  rw [ps_ixc hi, hP i hi]
  exact ⟨ps_ixi hi, h⟩
theorem ps_lies {post : Int32 → Prop} {a1 a2 a3 T : Nat → Int32} (hP : ps_P a1 T) {i j : Nat} (hi : i < 5) (h1 : ps_bt (T i) j = 1 → post 1) (h0 : ¬ ps_bt (T i) j = 1 → post 0) : wpX_lies post (a1, a2, a3) 1 (nI i) (nI j) := by
  show vp_in ((5 : Int32) * 1 + nI i) 20 ∧ (((((a1 ((5 : Int32) * 1 + nI i).toNatClampNeg) >>> (nI j &&& 31)) &&& 1) = 1 → (post 1)) ∧ (¬ (((a1 ((5 : Int32) * 1 + nI i).toNatClampNeg) >>> (nI j &&& 31)) &&& 1) = 1 → (post 0)))
  rw [ps_ixc hi, hP i hi]
  exact ⟨ps_ixi hi, h1, h0⟩
/-- isOpenSet -/
def ps_op (T : Nat → Int32) (s : Int32) : Nat → Int32
  | 0 => 1
  | k + 1 => if ps_bt s (5 - (k + 1)) = 1 then (if T (5 - (k + 1)) &&& (s ^^^ (-1)) = 0 then ps_op T s k else 0) else ps_op T s k
theorem ps_w_op {post : Int32 → Prop} {a1 a2 a3 T : Nat → Int32} {s : Int32} (hP : ps_P a1 T) : ∀ k, k ≤ 5 → post (ps_op T s k) → wX_isOpenSet_2 post 1 s a1 a2 a3 (k + 1) (nI (5 - k)) := by
  intro k
  induction k with
  | zero => exact fun _ h => pk_le 5 5 (fun _ => h) (fun z => absurd z (by omega))
  | succ k ih =>
    intro hk h
    have hn : nI (5 - (k + 1)) + 1 = nI (5 - k) := ps_nx hk
    have hw := ih (by omega)
    unfold ps_op at h
    refine pk_le 5 (5 - (k + 1)) (fun z => absurd z (by omega)) (fun _ => ?_)
    refine br_c (fun hb => ?_) (fun hb => ?_)
    · have hb' : ps_bt s (5 - (k + 1)) = 1 := hb
      rw [if_pos hb'] at h
      refine br_f (by decide) (ps_about hP (by omega) ?_)
      refine br_c (fun hz => nm_r hn (hw ?_)) (fun hz => ?_)
      · rw [if_pos hz] at h
        exact h
      · rw [if_neg hz] at h
        exact h
    · have hb' : ¬ ps_bt s (5 - (k + 1)) = 1 := hb
      rw [if_neg hb'] at h
      exact br_t rfl (nm_r hn (hw h))
theorem ps_isOpenSet {post : Int32 → Prop} {a1 a2 a3 T : Nat → Int32} {s : Int32} (hP : ps_P a1 T) (h : post (ps_op T s 5)) : wpX_isOpenSet post (a1, a2, a3) 1 s :=
  ⟨6, ps_w_op hP 5 (by omega) h⟩
/-- count -/
def ps_ct (T : Nat → Int32) : Nat → Int32 → Int32
  | 0, c => c
  | k + 1, c => if ps_op T (nI (32 - (k + 1))) 5 = 0 then ps_ct T k (c + 0) else ps_ct T k (c + 1)
theorem ps_w_ct {post : Int32 → Prop} {a1 a2 a3 T : Nat → Int32} (hP : ps_P a1 T) : ∀ k, k ≤ 32 → ∀ c, post (ps_ct T k c) → wX_count_4 post 1 a1 a2 a3 (k + 1) c (nI (32 - k)) := by
  intro k
  induction k with
  | zero => exact fun _ c h => pk_le 32 32 (fun _ => h) (fun z => absurd z (by omega))
  | succ k ih =>
    intro hk c h
    have hn : nI (32 - (k + 1)) + 1 = nI (32 - k) := ps_nx hk
    have hw := ih (by omega)
    unfold ps_ct at h
    refine pk_le 32 (32 - (k + 1)) (fun z => absurd z (by omega)) (fun _ => ps_isOpenSet hP ?_)
    refine br_c (fun hb => nm_e (nm_r hn (hw _ ?_))) (fun hb => nm_e (nm_r hn (hw _ ?_)))
    · rw [if_pos hb] at h
      exact h
    · rw [if_neg hb] at h
      exact h
theorem ps_count {post : Int32 → Prop} {a1 a2 a3 T : Nat → Int32} (hP : ps_P a1 T) (h : post (ps_ct T 32 0)) : wpX_count post (a1, a2, a3) 1 :=
  ⟨33, ps_w_ct hP 32 (by omega) 0 h⟩
/-- closureOf -/
def ps_cl (T : Nat → Int32) (s : Int32) : Nat → Int32 → Int32
  | 0, r => r
  | k + 1, r => if T (5 - (k + 1)) &&& s = 0 then ps_cl T s k (r ||| 0) else ps_cl T s k (r ||| ps_1 (5 - (k + 1)))
theorem ps_w_cl {post : Int32 → Prop} {a1 a2 a3 T : Nat → Int32} {s : Int32} (hP : ps_P a1 T) : ∀ k, k ≤ 5 → ∀ r, post (ps_cl T s k r) → wX_closureOf_5 post 1 s a1 a2 a3 (k + 1) r (nI (5 - k)) := by
  intro k
  induction k with
  | zero => exact fun _ r h => pk_le 5 5 (fun _ => h) (fun z => absurd z (by omega))
  | succ k ih =>
    intro hk r h
    have hn : nI (5 - (k + 1)) + 1 = nI (5 - k) := ps_nx hk
    have hw := ih (by omega)
    unfold ps_cl at h
    refine pk_le 5 (5 - (k + 1)) (fun z => absurd z (by omega)) (fun _ => ps_about hP (by omega) ?_)
    refine br_c (fun hb => nm_e (nm_r hn (hw _ ?_))) (fun hb => nm_e (nm_r hn (hw _ ?_)))
    · rw [if_pos hb] at h
      exact h
    · rw [if_neg hb] at h
      exact h
theorem ps_closureOf {post : Int32 → Prop} {a1 a2 a3 T : Nat → Int32} {s : Int32} (hP : ps_P a1 T) (h : post (ps_cl T s 5 0)) : wpX_closureOf post (a1, a2, a3) 1 s :=
  ⟨6, ps_w_cl hP 5 (by omega) 0 h⟩
/-- dense -/
def ps_dn (T : Nat → Int32) : Nat → Int32 → Int32
  | 0, c => c
  | k + 1, c => if ps_cl T (nI (32 - (k + 1))) 5 0 = 31 then ps_dn T k (c + 1) else ps_dn T k (c + 0)
theorem ps_w_dn {post : Int32 → Prop} {a1 a2 a3 T : Nat → Int32} (hP : ps_P a1 T) : ∀ k, k ≤ 32 → ∀ c, post (ps_dn T k c) → wX_dense_13 post 1 a1 a2 a3 (k + 1) c (nI (32 - k)) := by
  intro k
  induction k with
  | zero => exact fun _ c h => pk_le 32 32 (fun _ => h) (fun z => absurd z (by omega))
  | succ k ih =>
    intro hk c h
    have hn : nI (32 - (k + 1)) + 1 = nI (32 - k) := ps_nx hk
    have hw := ih (by omega)
    unfold ps_dn at h
    refine pk_le 32 (32 - (k + 1)) (fun z => absurd z (by omega)) (fun _ => ps_closureOf hP ?_)
    refine br_c (fun hb => nm_e (nm_r hn (hw _ ?_))) (fun hb => nm_e (nm_r hn (hw _ ?_)))
    · rw [if_pos hb] at h
      exact h
    · rw [if_neg hb] at h
      exact h
theorem ps_dense {post : Int32 → Prop} {a1 a2 a3 T : Nat → Int32} (hP : ps_P a1 T) (h : post (ps_dn T 32 0)) : wpX_dense post (a1, a2, a3) 1 := by
  unfold wpX_dense
  exact ps_space (br_f (by decide) ⟨33, ps_w_dn hP 32 (by omega) 0 h⟩)
/-- pieceOf: the inner loop, the outer one -/
def ps_gr (T : Nat → Int32) : Nat → Int32 → Int32
  | 0, m => m
  | k + 1, m => if ps_bt m (5 - (k + 1)) = 1 then ps_gr T k (m ||| T (5 - (k + 1))) else ps_gr T k (m ||| 0)
theorem ps_w_gr {post : Int32 → Prop} {J : Int32 → Int32 → Prop} {a1 a2 a3 T : Nat → Int32} {x3 x4 : Int32} (hP : ps_P a1 T) : ∀ k, k ≤ 5 → ∀ m, J (x3 ||| ps_gr T k m) (x4 + 1) → wX_pieceOf_24 post J 1 x3 x4 a1 a2 a3 (k + 1) m (nI (5 - k)) := by
  intro k
  induction k with
  | zero => exact fun _ m h => pk_le 5 5 (fun _ => nm_e (nm_e h)) (fun z => absurd z (by omega))
  | succ k ih =>
    intro hk m h
    have hn : nI (5 - (k + 1)) + 1 = nI (5 - k) := ps_nx hk
    have hw := ih (by omega)
    unfold ps_gr at h
    refine pk_le 5 (5 - (k + 1)) (fun z => absurd z (by omega)) (fun _ => ?_)
    refine br_c (fun hb => ?_) (fun hb => ?_)
    · have hb' : ps_bt m (5 - (k + 1)) = 1 := hb
      rw [if_pos hb'] at h
      exact br_f (by decide) (ps_about hP (by omega) (nm_e (nm_r hn (hw _ h))))
    · have hb' : ¬ ps_bt m (5 - (k + 1)) = 1 := hb
      rw [if_neg hb'] at h
      exact br_t rfl (nm_e (nm_r hn (hw _ h)))
def ps_pc (T : Nat → Int32) : Nat → Int32 → Int32
  | 0, r => r
  | k + 1, r => ps_pc T k (r ||| ps_gr T 5 (ps_cl T r 5 0))
theorem ps_w_pc {post : Int32 → Prop} {a1 a2 a3 T : Nat → Int32} (hP : ps_P a1 T) : ∀ k, k ≤ 5 → ∀ r, post (ps_pc T k r) → wX_pieceOf_7 post 1 a1 a2 a3 (k + 1) r (nI (5 - k)) := by
  intro k
  induction k with
  | zero => exact fun _ r h => pk_le 5 5 (fun _ => h) (fun z => absurd z (by omega))
  | succ k ih =>
    intro hk r h
    have hn : nI (5 - (k + 1)) + 1 = nI (5 - k) := ps_nx hk
    have hw := ih (by omega) _ h
    refine pk_le 5 (5 - (k + 1)) (fun z => absurd z (by omega)) (fun _ => ps_closureOf hP ⟨6, ps_w_gr hP 5 (by omega) _ ?_⟩)
    rw [hn]
    exact hw
theorem ps_pieceOf {post : Int32 → Prop} {a1 a2 a3 T : Nat → Int32} (hP : ps_P a1 T) {x : Nat} (h : post (ps_pc T 5 (ps_1 x))) : wpX_pieceOf post (a1, a2, a3) 1 (nI x) :=
  nm_e ⟨6, ps_w_pc hP 5 (by omega) _ h⟩
end
section
/-- kind: the inner loop of point x (k points y left), the outer one -/
def ps_ki (T : Nat → Int32) (x : Nat) : Nat → Int32 → Int32
  | 0, p => p
  | k + 1, p => if p = 0 then ps_ki T x k 0 else (if ps_bt (T x) (x - (k + 1)) = 1 then (if ps_bt (T (x - (k + 1))) x = 1 then ps_ki T x k 0 else ps_ki T x k 1) else ps_ki T x k 1)
theorem ps_w_ki {post : Int32 → Prop} {J : Int32 → Int32 → Int32 → Int32 → Prop} {a1 a2 a3 T : Nat → Int32} {x3 x4 : Int32} {x : Nat} (hx : x < 5) (hP : ps_P a1 T) : ∀ k, k ≤ x → ∀ p, J (ps_ki T x k p) x3 x4 (nI x + 1) → wX_kind_82 post J 1 x3 x4 (nI x) a1 a2 a3 (k + 1) p (nI (x - k)) := by
  intro k
  induction k with
  | zero => exact fun _ p h => pk_le x x (fun _ => nm_e h) (fun z => absurd z (by omega))
  | succ k ih =>
    intro hk p h
    have hn : nI (x - (k + 1)) + 1 = nI (x - k) := ps_nx hk
    have hw := ih (by omega)
    unfold ps_ki at h
    refine pk_le x (x - (k + 1)) (fun z => absurd z (by omega)) (fun _ => ?_)
    refine br_c (fun hb => ?_) (fun hb => ps_lies hP hx (fun h1 => ?_) (fun h1 => ?_))
    · rw [if_pos hb] at h
      exact nm_r hn (hw _ h)
    · rw [if_neg hb, if_pos h1] at h
      refine br_f (by decide) (ps_lies hP (by omega) (fun h2 => ?_) (fun h2 => ?_))
      · rw [if_pos h2] at h
        exact br_f (by decide) (nm_r hn (hw _ h))
      · rw [if_neg h2] at h
        exact br_t rfl (nm_r hn (hw _ h))
    · rw [if_neg hb, if_neg h1] at h
      exact br_t rfl (nm_r hn (hw _ h))
def ps_sg (T : Nat → Int32) (x : Nat) (q : Int32) : Int32 := if q = 0 then 0 else (if ps_cl T (ps_1 x) 5 0 = ps_1 x then 1 else 0)
def ps_ev (T : Nat → Int32) (x : Nat) (e : Int32) : Int32 := if e = 0 then 0 else (if ps_cl T (ps_1 x) 5 0 = T x then 1 else 0)
def ps_kd (T : Nat → Int32) : Nat → Int32 → Int32 → Int32 → Int32
  | 0, p, q, e => (((if p = 0 then 0 else 1) + (if q = 0 then 0 else 2)) + (if ps_pc T 5 (ps_1 0) = 31 then 4 else 0)) + (if e = 0 then 0 else 8)
  | k + 1, p, q, e => ps_kd T k (ps_ki T (5 - (k + 1)) (5 - (k + 1)) p) (ps_sg T (5 - (k + 1)) q) (ps_ev T (5 - (k + 1)) e)
theorem ps_w_54 {post : Int32 → Prop} {J : Int32 → Int32 → Int32 → Int32 → Prop} {a1 a2 a3 T : Nat → Int32} {p e z : Int32} {x : Nat} (hx : x < 5) (hP : ps_P a1 T) (h : J (ps_ki T x x p) z (ps_ev T x e) (nI x + 1)) : wX_kind_54 post J 1 p e (nI x) (ps_cl T (ps_1 x) 5 0) z a1 a2 a3 := by
  have hw := fun (q : Int32) (hq : J (ps_ki T x x p) z q (nI x + 1)) => ps_w_ki (post := post) (a2 := a2) (a3 := a3) hx hP x (Nat.le_refl x) p hq
  rw [Nat.sub_self] at hw
  unfold ps_ev at h
  refine br_c (fun he => ⟨x + 1, hw 0 ?_⟩) (fun he => ps_about hP hx (br_c (fun hr => ⟨x + 1, hw 1 ?_⟩) (fun hr => ⟨x + 1, hw 0 ?_⟩)))
  · rw [if_pos he] at h
    exact h
  · rw [if_neg he, if_pos hr] at h
    exact h
  · rw [if_neg he, if_neg hr] at h
    exact h
theorem ps_w_kd {post : Int32 → Prop} {a1 a2 a3 T : Nat → Int32} (hP : ps_P a1 T) : ∀ k, k ≤ 5 → ∀ p q e, post (ps_kd T k p q e) → wX_kind_19 post 1 a1 a2 a3 (k + 1) p q e (nI (5 - k)) := by
  intro k
  induction k with
  | zero =>
    intro _ p q e h
    refine pk_le 5 5 (fun _ => ps_pieceOf (x := 0) hP ?_) (fun z => absurd z (by omega))
    unfold ps_kd at h
    refine br_c (fun h1 => ?_) (fun h1 => ?_)
    · rw [if_pos h1] at h
      refine br_c (fun h2 => ?_) (fun h2 => ?_)
      · rw [if_pos h2] at h
        refine br_c (fun h3 => ?_) (fun h3 => ?_)
        · rw [if_pos h3] at h
          refine br_c (fun h4 => ?_) (fun h4 => ?_)
          · rw [if_pos h4] at h
            exact h
          · rw [if_neg h4] at h
            exact h
        · rw [if_neg h3] at h
          refine br_c (fun h4 => ?_) (fun h4 => ?_)
          · rw [if_pos h4] at h
            exact h
          · rw [if_neg h4] at h
            exact h
      · rw [if_neg h2] at h
        refine br_c (fun h3 => ?_) (fun h3 => ?_)
        · rw [if_pos h3] at h
          refine br_c (fun h4 => ?_) (fun h4 => ?_)
          · rw [if_pos h4] at h
            exact h
          · rw [if_neg h4] at h
            exact h
        · rw [if_neg h3] at h
          refine br_c (fun h4 => ?_) (fun h4 => ?_)
          · rw [if_pos h4] at h
            exact h
          · rw [if_neg h4] at h
            exact h
    · rw [if_neg h1] at h
      refine br_c (fun h2 => ?_) (fun h2 => ?_)
      · rw [if_pos h2] at h
        refine br_c (fun h3 => ?_) (fun h3 => ?_)
        · rw [if_pos h3] at h
          refine br_c (fun h4 => ?_) (fun h4 => ?_)
          · rw [if_pos h4] at h
            exact h
          · rw [if_neg h4] at h
            exact h
        · rw [if_neg h3] at h
          refine br_c (fun h4 => ?_) (fun h4 => ?_)
          · rw [if_pos h4] at h
            exact h
          · rw [if_neg h4] at h
            exact h
      · rw [if_neg h2] at h
        refine br_c (fun h3 => ?_) (fun h3 => ?_)
        · rw [if_pos h3] at h
          refine br_c (fun h4 => ?_) (fun h4 => ?_)
          · rw [if_pos h4] at h
            exact h
          · rw [if_neg h4] at h
            exact h
        · rw [if_neg h3] at h
          refine br_c (fun h4 => ?_) (fun h4 => ?_)
          · rw [if_pos h4] at h
            exact h
          · rw [if_neg h4] at h
            exact h
  | succ k ih =>
    intro hk p q e h
    have hn : nI (5 - (k + 1)) + 1 = nI (5 - k) := ps_nx hk
    have hw := ih (by omega) _ _ _ h
    rw [← hn] at hw
    refine pk_le 5 (5 - (k + 1)) (fun z => absurd z (by omega)) (fun _ => ps_closureOf hP ?_)
    unfold ps_sg at hw
    refine br_c (fun hq => ?_) (fun hq => br_c (fun hc => ?_) (fun hc => ?_))
    · rw [if_pos hq] at hw
      exact ps_w_54 (by omega) hP hw
    · have hc' : ps_cl T (ps_1 (5 - (k + 1))) 5 0 = ps_1 (5 - (k + 1)) := hc
      rw [if_neg hq, if_pos hc'] at hw
      exact ps_w_54 (by omega) hP hw
    · have hc' : ¬ ps_cl T (ps_1 (5 - (k + 1))) 5 0 = ps_1 (5 - (k + 1)) := hc
      rw [if_neg hq, if_neg hc'] at hw
      exact ps_w_54 (by omega) hP hw
theorem ps_kind {post : Int32 → Prop} {a1 a2 a3 T : Nat → Int32} (hP : ps_P a1 T) (h : post (ps_kd T 5 1 1 1)) : wpX_kind post (a1, a2, a3) 1 := by
  unfold wpX_kind
  exact ps_space (br_f (by decide) ⟨6, ps_w_kd hP 5 (by omega) 1 1 1 h⟩)
/-- a place of space 1 written -/
theorem ps_fill {U s : Nat → Int32} {b i : Nat} {v : Int32} (h : ∀ j, j < i → s (b + j) = U j) (hv : v = U i) : ∀ j, j < i + 1 → upd s (b + i) v (b + j) = U j := by
  intro j hj
  by_cases e : j = i
  · rw [e, pk_us, hv]
  · rw [pk_un (by omega)]
    exact h j (by omega)
theorem ps_init {post : St2 → Prop} {mc ms : Nat} (hc : 3 ≤ mc) (hs : 30 ≤ ms) (H : ∀ a1 a2 a3, post (a1, a2, a3)) : wpX_init post mc ms () :=
  ⟨by omega, by omega, by omega, by omega, hc, hs,
    pk_loop (fun n i s => wX_init_28 post mc ms 3 30 n (nI i) s (fun _ => 0) (fun _ => 0)) (fun _ _ => True) 20 0 (fun _ => 0) (by omega) trivial
      (fun n s _ => pk_le 20 20 (fun _ => H _ _ _) (fun z => absurd z (by omega)))
      (fun n i s hi _ hw => pk_le 20 i (fun z => absurd z (by omega)) (fun _ => ⟨pk_in i 20 hi, nm_e (nm_r (nI_1 i) (hw _ trivial))⟩))⟩
theorem ps_loose {post : Int32 → St2 → Prop} {a1 a2 a3 : Nat → Int32} (H : ∀ a, ps_P a ps_1 → post (ps_ct ps_1 32 0) (a, a2, a3)) : wpX_loose post (a1, a2, a3) 1 := by
  unfold wpX_loose
  refine ps_space (br_f (by decide) ?_)
  exact pk_loop (fun n i s => wX_loose_11 post 1 n (nI i) s a2 a3) (fun i s => ∀ j, j < i → s (5 + j) = ps_1 j) 5 0 a1 (by omega) (fun j hj => absurd hj (by omega))
    (fun n s h => pk_le 5 5 (fun _ => ps_count (T := ps_1) h (H s h)) (fun z => absurd z (by omega)))
    (fun n i s hi h hw => pk_le 5 i (fun z => absurd z (by omega)) (fun _ => ⟨ps_ixi hi, nm_r (by rw [ps_ixc hi]; rfl) (nm_r (nI_1 i) (hw _ (ps_fill h rfl)))⟩))
/-- tie -/
def ps_tie (T : Nat → Int32) (a b i : Nat) : Int32 := if ps_bt (T i) a = 1 then T i ||| T b else T i
theorem ps_w_tie {post : Int32 → St2 → Prop} {a1 a2 a3 T U : Nat → Int32} {a b : Nat} (hP : ps_P a1 T) (hU : ∀ i, i < 5 → ps_tie T a b i = U i) (H : ∀ s, ps_P s U → post (ps_ct U 32 0) (s, a2, a3)) : ∃ n, wX_tie_37 post 1 (nI a) (T b) n 0 a1 a2 a3 :=
  pk_loop (fun n i s => wX_tie_37 post 1 (nI a) (T b) n (nI i) s a2 a3) (fun i s => (∀ j, j < i → s (5 + j) = U j) ∧ (∀ j, i ≤ j → j < 5 → s (5 + j) = T j)) 5 0 a1 (by omega) ⟨fun j hj => absurd hj (by omega), fun j _ hj => hP j hj⟩
    (fun n s h => pk_le 5 5 (fun _ => ps_count (T := U) h.1 (H s h.1)) (fun z => absurd z (by omega)))
    (fun n i s hi h hw => by
      have hs : s (5 + i) = T i := h.2 i (Nat.le_refl i) hi
      have hu := hU i hi
      unfold ps_tie at hu
      refine pk_le 5 i (fun z => absurd z (by omega)) (fun _ => ?_)
      refine ps_lies (T := fun j => s (5 + j)) (fun _ _ => rfl) hi (fun h1 => ?_) (fun h1 => ?_)
      · have h1' : ps_bt (T i) a = 1 := by rw [← hs]; exact h1
        rw [if_pos h1'] at hu
        refine br_f (by decide) ⟨ps_ixi hi, ps_ixi hi, nm_r (by rw [ps_ixc hi, hs, hu]) (nm_r (nI_1 i) (hw _ ⟨ps_fill h.1 rfl, fun j h2 h3 => ?_⟩))⟩
        rw [pk_un (by omega)]
        exact h.2 j (by omega) h3
      · have h1' : ¬ ps_bt (T i) a = 1 := by rw [← hs]; exact h1
        rw [if_neg h1'] at hu
        refine br_t rfl (nm_r (nI_1 i) (hw _ ⟨fun j hj => ?_, fun j h2 h3 => h.2 j (by omega) h3⟩))
        by_cases e : j = i
        · rw [e, hs, hu]
        · exact h.1 j (by omega))
/-- a point or not -/
theorem ps_point {post : Int32 → Prop} {x : Nat} (hx : x < 5) (h : post 1) : wpX_isPoint post () (nI x) :=
  br_f (nI_pos (by omega)) (pk_le 5 x (fun z => absurd z (by omega)) (fun _ => h))
theorem ps_nopoint {post : Int32 → Prop} {x : Int32} (hx : x < 0 ∨ 4 < x) (h : post 0) : wpX_isPoint post () x :=
  br_c (fun _ => h) (fun h0 => br_c (fun _ => h) (fun h5 => by
    exfalso
    rcases hx with hx | hx
    · exact h0 hx
    · obtain ⟨j, hj, rfl⟩ := nI_of h0
      have e4 : 4 < j := (nI_ltI (a := 4) (by decide) hj).mp hx
      exact h5 (nI_le (a := 5) (by omega) hj)))
theorem ps_set {post : Int32 → Prop} {s : Nat} (hs : s < 32) (h : post 1) : wpX_isSet post () (nI s) :=
  br_f (nI_pos (by omega)) (pk_lt 31 s (fun z => absurd z (by omega)) (fun _ => h))
theorem ps_noset {post : Int32 → Prop} {x : Int32} (hx : x < 0 ∨ 31 < x) (h : post 0) : wpX_isSet post () x :=
  br_c (fun _ => h) (fun h0 => br_c (fun _ => h) (fun h5 => by
    exfalso
    rcases hx with hx | hx
    · exact h0 hx
    · exact h5 hx))
theorem ps_tieOk {post : Int32 → St2 → Prop} {a1 a2 a3 T U : Nat → Int32} {a b : Nat} (ha : a < 5) (hb : b < 5) (hP : ps_P a1 T) (hU : ∀ i, i < 5 → ps_tie T a b i = U i) (H : ∀ s, ps_P s U → post (ps_ct U 32 0) (s, a2, a3)) : wpX_tie post (a1, a2, a3) 1 (nI a) (nI b) := by
  unfold wpX_tie
  refine ps_space (br_f (by decide) (ps_point ha (br_f (by decide) (ps_point hb (br_f (by decide) (ps_about hP hb ?_))))))
  exact ps_w_tie hP hU H
theorem ps_tieNoA {post : Int32 → St2 → Prop} {a1 a2 a3 : Nat → Int32} {x y : Int32} (hx : x < 0 ∨ 4 < x) (H : post (-2) (a1, a2, a3)) : wpX_tie post (a1, a2, a3) 1 x y := by
  unfold wpX_tie
  exact ps_space (br_f (by decide) (ps_nopoint hx (br_t rfl H)))
theorem ps_tieNoB {post : Int32 → St2 → Prop} {a1 a2 a3 : Nat → Int32} {a : Nat} {y : Int32} (ha : a < 5) (hy : y < 0 ∨ 4 < y) (H : post (-2) (a1, a2, a3)) : wpX_tie post (a1, a2, a3) 1 (nI a) y := by
  unfold wpX_tie
  exact ps_space (br_f (by decide) (ps_point ha (br_f (by decide) (ps_nopoint hy (br_t rfl H)))))
/-- isOpen, closure, around, piece: in range and out of it -/
theorem ps_isOpen {post : Int32 → Prop} {a1 a2 a3 T : Nat → Int32} {s : Nat} (hP : ps_P a1 T) (hs : s < 32) {v : Int32} (hv : ps_op T (nI s) 5 = v) (h0 : v = 0 → post 0) (h1 : ¬ v = 0 → post 1) : wpX_isOpen post (a1, a2, a3) 1 (nI s) := by
  unfold wpX_isOpen
  refine ps_space (br_f (by decide) (ps_set hs (br_f (by decide) (ps_isOpenSet hP ?_))))
  rw [hv]
  exact ⟨h0, h1⟩
theorem ps_isOpenNo {post : Int32 → Prop} {a1 a2 a3 : Nat → Int32} {x : Int32} (hx : x < 0 ∨ 31 < x) (H : post (-2)) : wpX_isOpen post (a1, a2, a3) 1 x := by
  unfold wpX_isOpen
  exact ps_space (br_f (by decide) (ps_noset hx (br_t rfl H)))
theorem ps_closure {post : Int32 → Prop} {a1 a2 a3 T : Nat → Int32} {s : Nat} (hP : ps_P a1 T) (hs : s < 32) (h : post (ps_cl T (nI s) 5 0)) : wpX_closure post (a1, a2, a3) 1 (nI s) := by
  unfold wpX_closure
  exact ps_space (br_f (by decide) (ps_set hs (br_f (by decide) (ps_closureOf hP h))))
theorem ps_closureNo {post : Int32 → Prop} {a1 a2 a3 : Nat → Int32} {x : Int32} (hx : x < 0 ∨ 31 < x) (H : post (-2)) : wpX_closure post (a1, a2, a3) 1 x := by
  unfold wpX_closure
  exact ps_space (br_f (by decide) (ps_noset hx (br_t rfl H)))
theorem ps_around {post : Int32 → Prop} {a1 a2 a3 T : Nat → Int32} {x : Nat} (hP : ps_P a1 T) (hx : x < 5) (h : post (T x)) : wpX_around post (a1, a2, a3) 1 (nI x) := by
  unfold wpX_around
  exact ps_space (br_f (by decide) (ps_point hx (br_f (by decide) (ps_about hP hx h))))
theorem ps_aroundNo {post : Int32 → Prop} {a1 a2 a3 : Nat → Int32} {x : Int32} (hx : x < 0 ∨ 4 < x) (H : post (-2)) : wpX_around post (a1, a2, a3) 1 x := by
  unfold wpX_around
  exact ps_space (br_f (by decide) (ps_nopoint hx (br_t rfl H)))
theorem ps_piece {post : Int32 → Prop} {a1 a2 a3 T : Nat → Int32} {x : Nat} (hP : ps_P a1 T) (hx : x < 5) (h : post (ps_pc T 5 (ps_1 x))) : wpX_piece post (a1, a2, a3) 1 (nI x) := by
  unfold wpX_piece
  exact ps_space (br_f (by decide) (ps_point hx (br_f (by decide) (ps_pieceOf hP h))))
theorem ps_pieceNo {post : Int32 → Prop} {a1 a2 a3 : Nat → Int32} {x : Int32} (hx : x < 0 ∨ 4 < x) (H : post (-2)) : wpX_piece post (a1, a2, a3) 1 x := by
  unfold wpX_piece
  exact ps_space (br_f (by decide) (ps_nopoint hx (br_t rfl H)))
/-- settle, turn -/
theorem ps_settle {post : St2 → Prop} {a1 a2 a3 U : Nat → Int32} (hS : ∀ i, i < 5 → a1 (15 + i) = U i) (H : ∀ s, ps_P s U → post (s, a2, a3)) : wpX_settle post (a1, a2, a3) 1 :=
  pk_loop (fun n i s => wX_settle_2 post 1 n (nI i) s a2 a3) (fun i s => (∀ j, j < 5 → s (15 + j) = U j) ∧ (∀ j, j < i → s (5 + j) = U j)) 5 0 a1 (by omega) ⟨hS, fun j hj => absurd hj (by omega)⟩
    (fun n s h => pk_le 5 5 (fun _ => H s h.2) (fun z => absurd z (by omega)))
    (fun n i s hi h hw => pk_le 5 i (fun z => absurd z (by omega)) (fun _ => ⟨ps_iyi hi, ps_ixi hi, nm_r (by rw [ps_ixc hi, ps_iyc hi, h.1 i hi]) (nm_r (nI_1 i) (hw _ ⟨fun j hj => by rw [pk_un (by omega)]; exact h.1 j hj, ps_fill h.2 rfl⟩))⟩))
theorem ps_turn {post : Int32 → St2 → Prop} {a1 a2 a3 T U : Nat → Int32} (hP : ps_P a1 T) (hU : ∀ i, i < 5 → ps_cl T (ps_1 i) 5 0 = U i) (H : ∀ s, ps_P s U → post (ps_ct U 32 0) (s, a2, a3)) : wpX_turn post (a1, a2, a3) 1 := by
  unfold wpX_turn
  refine ps_space (br_f (by decide) ?_)
  exact pk_loop (fun n i s => wX_turn_11 post 1 n (nI i) s a2 a3) (fun i s => ps_P s T ∧ (∀ j, j < i → s (15 + j) = U j)) 5 0 a1 (by omega) ⟨hP, fun j hj => absurd hj (by omega)⟩
    (fun n s h => pk_le 5 5 (fun _ => ps_settle h.2 (fun s' h' => ps_count (T := U) h' (H s' h'))) (fun z => absurd z (by omega)))
    (fun n i s hi h hw => pk_le 5 i (fun z => absurd z (by omega)) (fun _ => ps_closureOf h.1 ⟨ps_iyi hi, nm_r (by rw [ps_iyc hi]; rfl) (nm_r (nI_1 i) (hw _ ⟨fun j hj => by rw [pk_un (by omega)]; exact h.1 j hj, ps_fill h.2 (hU i hi)⟩))⟩))
end
section
/-- the tied space: about a lies b too -/
def ps_D (a b i : Nat) : Int32 := if i = a then ps_1 a ||| ps_1 b else ps_1 i
theorem ps_g_ct : ps_ct ps_1 32 0 = 32 := by decide +kernel
theorem ps_g_op : ∀ s, s < 32 → ps_op ps_1 (nI s) 5 = 1 := by decide +kernel
theorem ps_g_cl : ∀ s, s < 32 → ps_cl ps_1 (nI s) 5 0 = nI s := by decide +kernel
theorem ps_g_tn : ∀ i, i < 5 → ps_cl ps_1 (ps_1 i) 5 0 = ps_1 i := by decide +kernel
theorem ps_g_dn : ps_dn ps_1 32 0 = 1 := by decide +kernel
theorem ps_g_pc : ∀ x, x < 5 → ps_pc ps_1 5 (ps_1 x) = ps_1 x := by decide +kernel
theorem ps_g_kd : ps_kd ps_1 5 1 1 1 = 11 := by decide +kernel
theorem ps_f_tie0 : ∀ a, a < 5 → ∀ i, i < 5 → ps_tie ps_1 a a i = ps_1 i := by decide +kernel
theorem ps_f_tie : ∀ a, a < 5 → ∀ b, b < 5 → ∀ i, i < 5 → ps_tie ps_1 a b i = ps_D a b i := by decide +kernel
theorem ps_f_tn : ∀ a, a < 5 → ∀ b, b < 5 → a ≠ b → ∀ i, i < 5 → ps_cl (ps_D a b) (ps_1 i) 5 0 = ps_D b a i := by decide +kernel
theorem ps_f_op : ∀ a, a < 5 → ∀ b, b < 5 → a ≠ b → ∀ s, s < 32 → ps_op (ps_D a b) (nI s) 5 = if ps_bt (nI s) a = 0 then 1 else (if ps_bt (nI s) b = 1 then 1 else 0) := by decide +kernel
theorem ps_f_cl : ∀ a, a < 5 → ∀ b, b < 5 → a ≠ b → ∀ s, s < 32 → ps_cl (ps_D a b) (nI s) 5 0 = if ps_bt (nI s) b = 1 then nI s ||| ps_1 a else nI s := by decide +kernel
theorem ps_f_ct : ∀ a, a < 5 → ∀ b, b < 5 → a ≠ b → ps_ct (ps_D a b) 32 0 = 24 := by decide +kernel
theorem ps_f_dn : ∀ a, a < 5 → ∀ b, b < 5 → a ≠ b → ps_dn (ps_D a b) 32 0 = 2 := by decide +kernel
theorem ps_f_pc : ∀ a, a < 5 → ∀ b, b < 5 → a ≠ b → ∀ x, x < 5 → ps_pc (ps_D a b) 5 (ps_1 x) = if x = a then ps_1 a ||| ps_1 b else (if x = b then ps_1 a ||| ps_1 b else ps_1 x) := by decide +kernel
theorem ps_f_kd : ∀ a, a < 5 → ∀ b, b < 5 → a ≠ b → ps_kd (ps_D a b) 5 1 1 1 = 1 := by decide +kernel
end
section
/-- a flag tells whether an int is a set; a point -/
def ps_FS (x f : Int32) : Prop := (f = 0 ∧ (x < 0 ∨ 31 < x)) ∨ (f = 1 ∧ ∃ s : Nat, s < 32 ∧ x = nI s)
def ps_FP (x f : Int32) : Prop := (f = 0 ∧ (x < 0 ∨ 4 < x)) ∨ (f = 1 ∧ ∃ s : Nat, s < 5 ∧ x = nI s)
section
variable {post : Int32 → St0 → Prop} {mc ms kc ks : Nat} {a1 a2 a3 : Nat → Int32} {x0 x1 x2 x3 x8 x9 : Int32}
/-! untied -/
theorem ps_u429 (hp : post 1 ()) (hP : ps_P a1 ps_1) (z : Int32) : wL_lawOf_429 post mc ms 0 z z kc ks a1 a2 a3 := by
  refine br_t rfl (ps_dense hP ?_)
  rw [ps_g_dn]
  exact br_t rfl (br_t rfl hp)
theorem ps_u380 (hp : post 1 ()) (hP : ps_P a1 ps_1) (hF : ps_FS x2 x8) : wL_lawOf_380 post mc ms x0 x1 x2 0 x8 32 32 kc ks a1 a2 a3 := by
  refine br_t rfl ?_
  rcases hF with ⟨rfl, hx⟩ | ⟨rfl, s, hs, rfl⟩
  · exact ps_isOpenNo hx (br_t rfl (ps_u429 hp hP _))
  · exact ps_isOpen hP hs (ps_g_op s hs) (fun z => absurd z (by decide)) (fun _ => br_f (by decide) (br_t rfl (ps_u429 hp hP _)))
theorem ps_u359 (hp : post 1 ()) (hP : ps_P a1 ps_1) (hF : ps_FS x2 x8) : wL_lawOf_359 post mc ms x0 x1 x2 0 x8 11 11 kc ks a1 a2 a3 := by
  refine br_t rfl (ps_turn hP ps_g_tn (fun s hs => ?_))
  rw [ps_g_ct]
  exact br_t rfl (ps_u380 hp hs hF)
theorem ps_u339 (hp : post 1 ()) (hP : ps_P a1 ps_1) (hF : ps_FS x2 x8) (z : Int32) : wL_lawOf_339 post mc ms x0 x1 x2 0 x8 z z kc ks a1 a2 a3 := by
  refine br_t rfl (ps_kind hP ?_)
  rw [ps_g_kd]
  exact br_t rfl (ps_u359 hp hP hF)
theorem ps_u285 (hp : post 1 ()) (hP : ps_P a1 ps_1) (hF : ps_FS x2 x8) (hG : ps_FP x3 x9) (z : Int32) : wL_lawOf_285 post mc ms x0 x1 x2 x3 0 x8 x9 z z kc ks a1 a2 a3 := by
  refine br_t rfl (br_t rfl ?_)
  unfold wL_lawOf_315 wL_lawOf_318
  rcases hG with ⟨rfl, hx⟩ | ⟨rfl, x, hx, rfl⟩
  · exact ps_pieceNo hx (br_t rfl (ps_u339 hp hP hF _))
  · refine ps_piece hP hx ?_
    rw [ps_g_pc x hx]
    exact br_f (by decide) (ps_u339 hp hP hF _)
theorem ps_u242 (hp : post 1 ()) (hP : ps_P a1 ps_1) (hF : ps_FS x2 x8) (hG : ps_FP x3 x9) (z : Int32) : wL_lawOf_242 post mc ms x0 x1 x2 x3 0 x8 x9 z z kc ks a1 a2 a3 := by
  refine br_t rfl ?_
  have h := fun z => ps_u285 (mc := mc) (ms := ms) (kc := kc) (ks := ks) (a2 := a2) (a3 := a3) (x0 := x0) (x1 := x1) hp hP hF hG z
  rcases hG with ⟨rfl, hx⟩ | ⟨rfl, x, hx, rfl⟩
  · exact ps_aroundNo hx (br_t rfl (h _))
  · exact ps_around hP hx (br_f (by decide) (br_t rfl (h _)))
theorem ps_u188 (hp : post 1 ()) (hP : ps_P a1 ps_1) (hF : ps_FS x2 x8) (hG : ps_FP x3 x9) (z : Int32) : wL_lawOf_188 post mc ms x0 x1 x2 x3 0 x8 x9 z z kc ks a1 a2 a3 := by
  refine br_t rfl (br_t rfl ?_)
  unfold wL_lawOf_220 wL_lawOf_221
  have h := fun z => ps_u242 (mc := mc) (ms := ms) (kc := kc) (ks := ks) (a2 := a2) (a3 := a3) (x0 := x0) (x1 := x1) hp hP hF hG z
  rcases hF with ⟨rfl, hx⟩ | ⟨rfl, s, hs, rfl⟩
  · exact ps_closureNo hx (br_t rfl (h _))
  · refine ps_closure hP hs ?_
    rw [ps_g_cl s hs]
    exact br_f (by decide) (h _)
theorem ps_u127 (hp : post 1 ()) (hP : ps_P a1 ps_1) (hF : ps_FS x2 x8) (hG : ps_FP x3 x9) (z : Int32) : wL_lawOf_127 post mc ms x0 x1 x2 x3 0 x8 x9 z z kc ks a1 a2 a3 := by
  refine br_t rfl (br_t rfl ?_)
  unfold wL_lawOf_154 wL_lawOf_159
  have h := fun z => ps_u188 (mc := mc) (ms := ms) (kc := kc) (ks := ks) (a2 := a2) (a3 := a3) (x0 := x0) (x1 := x1) hp hP hF hG z
  rcases hF with ⟨rfl, hx⟩ | ⟨rfl, s, hs, rfl⟩
  · exact ps_isOpenNo hx (br_t rfl (h _))
  · exact ps_isOpen hP hs (ps_g_op s hs) (fun z => absurd z (by decide)) (fun _ => br_f (by decide) (br_f (by decide) (h _)))
/-! tied -/
variable {a b : Nat}
theorem ps_t429 (hp : post 1 ()) (ha : a < 5) (hb : b < 5) (hab : a ≠ b) (hP : ps_P a1 (ps_D b a)) (z : Int32) : wL_lawOf_429 post mc ms 1 z z kc ks a1 a2 a3 := by
  refine br_t rfl (ps_dense hP ?_)
  rw [ps_f_dn b hb a ha (Ne.symm hab)]
  exact br_f (by decide) (br_t rfl hp)
theorem ps_t380 (hp : post 1 ()) (ha : a < 5) (hb : b < 5) (hab : a ≠ b) (hP : ps_P a1 (ps_D b a)) (hF : ps_FS x2 x8) : wL_lawOf_380 post mc ms (nI a) (nI b) x2 1 x8 24 24 kc ks a1 a2 a3 := by
  refine br_t rfl ?_
  have h := fun z => ps_t429 (mc := mc) (ms := ms) (kc := kc) (ks := ks) (a2 := a2) (a3 := a3) hp ha hb hab hP z
  rcases hF with ⟨rfl, hx⟩ | ⟨rfl, s, hs, rfl⟩
  · exact ps_isOpenNo hx (br_t rfl (h _))
  · have ho := ps_f_op b hb a ha (Ne.symm hab) s hs
    by_cases h1 : ps_bt (nI s) b = 0
    · rw [if_pos h1] at ho
      exact ps_isOpen hP hs ho (fun z => absurd z (by decide)) (fun _ => br_f (by decide) (br_f (by decide) (br_t h1 (h _))))
    · rw [if_neg h1] at ho
      by_cases h2 : ps_bt (nI s) a = 1
      · rw [if_pos h2] at ho
        exact ps_isOpen hP hs ho (fun z => absurd z (by decide)) (fun _ => br_f (by decide) (br_f (by decide) (br_f h1 (br_t h2 (h _)))))
      · rw [if_neg h2] at ho
        exact ps_isOpen hP hs ho (fun _ => br_f (by decide) (br_f (by decide) (br_f h1 (br_f h2 (h _))))) (fun z => absurd rfl z)
theorem ps_t359 (hp : post 1 ()) (ha : a < 5) (hb : b < 5) (hab : a ≠ b) (hP : ps_P a1 (ps_D a b)) (hF : ps_FS x2 x8) : wL_lawOf_359 post mc ms (nI a) (nI b) x2 1 x8 1 1 kc ks a1 a2 a3 := by
  refine br_t rfl (ps_turn hP (ps_f_tn a ha b hb hab) (fun s hs => ?_))
  rw [ps_f_ct b hb a ha (Ne.symm hab)]
  exact br_f (by decide) (ps_t380 hp ha hb hab hs hF)
theorem ps_t339 (hp : post 1 ()) (ha : a < 5) (hb : b < 5) (hab : a ≠ b) (hP : ps_P a1 (ps_D a b)) (hF : ps_FS x2 x8) (z : Int32) : wL_lawOf_339 post mc ms (nI a) (nI b) x2 1 x8 z z kc ks a1 a2 a3 := by
  refine br_t rfl (ps_kind hP ?_)
  rw [ps_f_kd a ha b hb hab]
  exact br_f (by decide) (ps_t359 hp ha hb hab hP hF)
theorem ps_t318N (hp : post 1 ()) (ha : a < 5) (hb : b < 5) (hab : a ≠ b) (hP : ps_P a1 (ps_D a b)) (hF : ps_FS x2 x8) (hx : x3 < 0 ∨ 4 < x3) (z : Int32) : wL_lawOf_318 post mc ms (nI a) (nI b) x2 x3 1 x8 0 z kc ks a1 a2 a3 := by
  unfold wL_lawOf_318
  exact ps_pieceNo hx (br_t rfl (ps_t339 hp ha hb hab hP hF _))
theorem ps_t318 (hp : post 1 ()) (ha : a < 5) (hb : b < 5) (hab : a ≠ b) (hP : ps_P a1 (ps_D a b)) (hF : ps_FS x2 x8) {x : Nat} (hx : x < 5) {z : Int32} (hz : ps_pc (ps_D a b) 5 (ps_1 x) = z) : wL_lawOf_318 post mc ms (nI a) (nI b) x2 (nI x) 1 x8 1 z kc ks a1 a2 a3 := by
  unfold wL_lawOf_318
  refine ps_piece hP hx ?_
  rw [hz]
  exact br_f (by decide) (ps_t339 hp ha hb hab hP hF _)
theorem ps_t285 (hp : post 1 ()) (ha : a < 5) (hb : b < 5) (hab : a ≠ b) (hP : ps_P a1 (ps_D a b)) (hF : ps_FS x2 x8) (hG : ps_FP x3 x9) (z : Int32) : wL_lawOf_285 post mc ms (nI a) (nI b) x2 x3 1 x8 x9 z z kc ks a1 a2 a3 := by
  refine br_t rfl (br_f (by decide) ?_)
  rcases hG with ⟨rfl, hx⟩ | ⟨rfl, x, hx, rfl⟩
  · exact br_c (fun _ => ps_t318N hp ha hb hab hP hF hx _) (fun _ => br_c (fun _ => ps_t318N hp ha hb hab hP hF hx _) (fun _ => ps_t318N hp ha hb hab hP hF hx _))
  · have ho := ps_f_pc a ha b hb hab x hx
    refine pk_eq x a (fun e => ?_) (fun e => pk_eq x b (fun e2 => ?_) (fun e2 => ?_))
    · rw [if_pos e] at ho
      exact ps_t318 hp ha hb hab hP hF hx ho
    · rw [if_neg e, if_pos e2] at ho
      exact ps_t318 hp ha hb hab hP hF hx ho
    · rw [if_neg e, if_neg e2] at ho
      exact ps_t318 hp ha hb hab hP hF hx ho
theorem ps_t242 (hp : post 1 ()) (ha : a < 5) (hb : b < 5) (hab : a ≠ b) (hP : ps_P a1 (ps_D a b)) (hF : ps_FS x2 x8) (hG : ps_FP x3 x9) (z : Int32) : wL_lawOf_242 post mc ms (nI a) (nI b) x2 x3 1 x8 x9 z z kc ks a1 a2 a3 := by
  refine br_t rfl ?_
  have h := fun z => ps_t285 (mc := mc) (ms := ms) (kc := kc) (ks := ks) (a2 := a2) (a3 := a3) hp ha hb hab hP hF hG z
  rcases hG with ⟨rfl, hx⟩ | ⟨rfl, x, hx, rfl⟩
  · exact ps_aroundNo hx (br_t rfl (h _))
  · refine ps_around hP hx (br_f (by decide) (br_f (by decide) (pk_eq x a (fun e => ?_) (fun e => ?_))))
    · rw [show ps_D a b x = ps_1 a ||| ps_1 b from if_pos e]
      exact h _
    · rw [show ps_D a b x = ps_1 x from if_neg e]
      exact h _
theorem ps_t221N (hp : post 1 ()) (ha : a < 5) (hb : b < 5) (hab : a ≠ b) (hP : ps_P a1 (ps_D a b)) (hx : x2 < 0 ∨ 31 < x2) (hG : ps_FP x3 x9) (z : Int32) : wL_lawOf_221 post mc ms (nI a) (nI b) x2 x3 1 0 x9 z kc ks a1 a2 a3 := by
  unfold wL_lawOf_221
  exact ps_closureNo hx (br_t rfl (ps_t242 hp ha hb hab hP (Or.inl ⟨rfl, hx⟩) hG _))
theorem ps_t221 (hp : post 1 ()) (ha : a < 5) (hb : b < 5) (hab : a ≠ b) (hP : ps_P a1 (ps_D a b)) {s : Nat} (hs : s < 32) (hG : ps_FP x3 x9) {z : Int32} (hz : ps_cl (ps_D a b) (nI s) 5 0 = z) : wL_lawOf_221 post mc ms (nI a) (nI b) (nI s) x3 1 1 x9 z kc ks a1 a2 a3 := by
  unfold wL_lawOf_221
  refine ps_closure hP hs ?_
  rw [hz]
  exact br_f (by decide) (ps_t242 hp ha hb hab hP (Or.inr ⟨rfl, s, hs, rfl⟩) hG _)
theorem ps_t188 (hp : post 1 ()) (ha : a < 5) (hb : b < 5) (hab : a ≠ b) (hP : ps_P a1 (ps_D a b)) (hF : ps_FS x2 x8) (hG : ps_FP x3 x9) (z : Int32) : wL_lawOf_188 post mc ms (nI a) (nI b) x2 x3 1 x8 x9 z z kc ks a1 a2 a3 := by
  refine br_t rfl (br_f (by decide) ?_)
  rcases hF with ⟨rfl, hx⟩ | ⟨rfl, s, hs, rfl⟩
  · exact br_t rfl (ps_t221N hp ha hb hab hP hx hG _)
  · have ho := ps_f_cl a ha b hb hab s hs
    refine br_f (by decide) (br_c (fun e => ?_) (fun e => ?_))
    · have e' : ps_bt (nI s) b = 1 := e
      rw [if_pos e'] at ho
      exact ps_t221 hp ha hb hab hP hs hG ho
    · have e' : ¬ ps_bt (nI s) b = 1 := e
      rw [if_neg e'] at ho
      exact ps_t221 hp ha hb hab hP hs hG ho
theorem ps_t159N (hp : post 1 ()) (ha : a < 5) (hb : b < 5) (hab : a ≠ b) (hP : ps_P a1 (ps_D a b)) (hx : x2 < 0 ∨ 31 < x2) (hG : ps_FP x3 x9) (z : Int32) : wL_lawOf_159 post mc ms (nI a) (nI b) x2 x3 1 0 x9 z kc ks a1 a2 a3 := by
  unfold wL_lawOf_159
  exact ps_isOpenNo hx (br_t rfl (ps_t188 hp ha hb hab hP (Or.inl ⟨rfl, hx⟩) hG _))
theorem ps_t159 (hp : post 1 ()) (ha : a < 5) (hb : b < 5) (hab : a ≠ b) (hP : ps_P a1 (ps_D a b)) {s : Nat} (hs : s < 32) (hG : ps_FP x3 x9) {z : Int32} (hz : ps_op (ps_D a b) (nI s) 5 = z) : wL_lawOf_159 post mc ms (nI a) (nI b) (nI s) x3 1 1 x9 z kc ks a1 a2 a3 := by
  unfold wL_lawOf_159
  have h := fun z => ps_t188 (mc := mc) (ms := ms) (kc := kc) (ks := ks) (a2 := a2) (a3 := a3) hp ha hb hab hP (Or.inr ⟨rfl, s, hs, rfl⟩ : ps_FS (nI s) 1) hG z
  exact ps_isOpen hP hs hz (fun e => br_f (by decide) (br_t e (h _))) (fun e => br_f (by decide) (br_f e (h _)))
theorem ps_t127 (hp : post 1 ()) (ha : a < 5) (hb : b < 5) (hab : a ≠ b) (hP : ps_P a1 (ps_D a b)) (hF : ps_FS x2 x8) (hG : ps_FP x3 x9) (z : Int32) : wL_lawOf_127 post mc ms (nI a) (nI b) x2 x3 1 x8 x9 z z kc ks a1 a2 a3 := by
  refine br_t rfl (br_f (by decide) ?_)
  rcases hF with ⟨rfl, hx⟩ | ⟨rfl, s, hs, rfl⟩
  · exact br_c (fun _ => ps_t159N hp ha hb hab hP hx hG _) (fun _ => br_c (fun _ => ps_t159N hp ha hb hab hP hx hG _) (fun _ => ps_t159N hp ha hb hab hP hx hG _))
  · have ho := ps_f_op a ha b hb hab s hs
    refine br_c (fun e => ?_) (fun e => br_c (fun e2 => ?_) (fun e2 => ?_))
    · have e' : ps_bt (nI s) a = 0 := e
      rw [if_pos e'] at ho
      exact ps_t159 hp ha hb hab hP hs hG ho
    · have e' : ¬ ps_bt (nI s) a = 0 := e
      have e2' : ps_bt (nI s) b = 1 := e2
      rw [if_neg e', if_pos e2'] at ho
      exact ps_t159 hp ha hb hab hP hs hG ho
    · have e' : ¬ ps_bt (nI s) a = 0 := e
      have e2' : ¬ ps_bt (nI s) b = 1 := e2
      rw [if_neg e', if_neg e2'] at ho
      exact ps_t159 hp ha hb hab hP hs hG ho
end
end
section
section
variable {post : Int32 → St0 → Prop} {mc ms kc ks : Nat} {a1 a2 a3 : Nat → Int32} {x0 x1 x2 x3 x6 x7 : Int32}
theorem ps_rP {x : Int32} (h0 : ¬ x < 0) (h4 : ¬ 4 < x) : ∃ j : Nat, j < 5 ∧ x = nI j := by
  obtain ⟨j, hj, rfl⟩ := nI_of h0
  refine ⟨j, ?_, rfl⟩
  rcases Nat.lt_or_ge j 5 with z | z
  · exact z
  · exact absurd (nI_lt (a := 4) (b := j) (by omega) hj) h4
theorem ps_rS {x : Int32} (h0 : ¬ x < 0) (h4 : ¬ 31 < x) : ∃ j : Nat, j < 32 ∧ x = nI j := by
  obtain ⟨j, hj, rfl⟩ := nI_of h0
  refine ⟨j, ?_, rfl⟩
  rcases Nat.lt_or_ge j 32 with z | z
  · exact z
  · exact absurd (nI_lt (a := 31) (b := j) (by omega) hj) h4
theorem ps_79 (K : ∀ x8 x9, ps_FS x2 x8 → ps_FP x3 x9 → wL_lawOf_95 post mc ms x0 x1 x2 x3 x6 x7 x8 x9 kc ks a1 a2 a3) {f : Int32} (hF : ps_FS x2 f) : wL_lawOf_79 post mc ms x0 x1 x2 x3 x6 x7 f kc ks a1 a2 a3 :=
  br_c (fun h => K f 0 hF (Or.inl ⟨rfl, Or.inl h⟩)) (fun h => br_c (fun h2 => K f 0 hF (Or.inl ⟨rfl, Or.inr h2⟩)) (fun h2 => K f 1 hF (Or.inr ⟨rfl, ps_rP h h2⟩)))
theorem ps_62 (K : ∀ x8 x9, ps_FS x2 x8 → ps_FP x3 x9 → wL_lawOf_95 post mc ms x0 x1 x2 x3 x6 x7 x8 x9 kc ks a1 a2 a3) : wL_lawOf_62 post mc ms x0 x1 x2 x3 x6 x7 kc ks a1 a2 a3 :=
  br_c (fun h => ps_79 K (f := 0) (Or.inl ⟨rfl, Or.inl h⟩)) (fun h => br_c (fun h2 => ps_79 K (f := 0) (Or.inl ⟨rfl, Or.inr h2⟩)) (fun h2 => ps_79 K (f := 1) (Or.inr ⟨rfl, ps_rS h h2⟩)))
theorem ps_95A (hp : post 1 ()) (hP : ps_P a1 ps_1) (hx : x0 < 0 ∨ 4 < x0) : wL_lawOf_44 post mc ms x0 x1 x2 x3 kc ks a1 a2 a3 :=
  br_t rfl (ps_62 (x7 := 0) (fun x8 x9 hF hG => ps_tieNoA hx (br_t rfl (ps_u127 hp hP hF hG _))))
theorem ps_95B (hp : post 1 ()) (hP : ps_P a1 ps_1) {a : Nat} (ha : a < 5) (hx : x1 < 0 ∨ 4 < x1) : wL_lawOf_44 post mc ms (nI a) x1 x2 x3 kc ks a1 a2 a3 :=
  br_t rfl (ps_62 (x7 := 0) (fun x8 x9 hF hG => ps_tieNoB ha hx (br_t rfl (ps_u127 hp hP hF hG _))))
theorem ps_45 (hp : post 1 ()) (hP : ps_P a1 ps_1) {a b : Nat} (ha : a < 5) (hb : b < 5) : wL_lawOf_45 post mc ms (nI a) (nI b) x2 x3 1 kc ks a1 a2 a3 := by
  refine br_f (by decide) (pk_eq a b (fun e => ?_) (fun e => ?_))
  · subst e
    refine ps_62 (x7 := 0) (fun x8 x9 hF hG => ps_tieOk ha ha hP (ps_f_tie0 a ha) (fun s hs => ?_))
    rw [ps_g_ct]
    exact br_f (by decide) (br_t rfl (ps_u127 hp hs hF hG _))
  · refine ps_62 (x7 := 1) (fun x8 x9 hF hG => ps_tieOk ha hb hP (ps_f_tie a ha b hb) (fun s hs => ?_))
    rw [ps_f_ct a ha b hb e]
    exact br_f (by decide) (br_f (by decide) (ps_t127 hp ha hb e hs hF hG _))
theorem ps_lawOf (hp : post 1 ()) (p0 p1 p2 p3 p4 : Int32) : wpL_lawOf post 26 400 () p0 p1 p2 p3 p4 := by
  refine ⟨by omega, by omega, 3, 30, by omega, by omega, ps_init (by omega) (by omega) (fun c1 c2 c3 => ps_loose (fun s hs => ?_))⟩
  rw [ps_g_ct]
  refine br_t rfl (br_c (fun h => ps_95A hp hs (Or.inl h)) (fun h => br_c (fun h2 => ps_95A hp hs (Or.inr h2)) (fun h2 => ?_)))
  obtain ⟨a, ha, rfl⟩ := ps_rP h h2
  refine br_c (fun g => ps_95B hp hs ha (Or.inl g)) (fun g => br_c (fun g2 => ps_95B hp hs ha (Or.inr g2)) (fun g2 => ?_))
  obtain ⟨b, hb, rfl⟩ := ps_rP g g2
  exact ps_45 hp hs ha hb
theorem ps_cell {po : Int32 → Prop} {L : Nat} {xs : Nat → Int32} (hL : L ≤ 5) (k : Nat) (hk : k < 5) (h : ∀ r, po r) : wpL_cellAt po L xs () (nI k) :=
  br_c (fun _ => h _) (fun z => ⟨by
    rcases Nat.lt_or_ge k L with g | g
    · exact vp_in_nI g (by omega)
    · exact absurd (nI_le (a := L) (b := k) g (by omega)) z, h _⟩)
end
theorem i_vc (xs : Nat → Int32) (L : Nat) (hL : L ≤ 5) : wpL_law (fun r => r = 1) L xs :=
  ps_cell hL 0 (by decide) (fun r1 => ps_cell hL 1 (by decide) (fun r2 => ps_cell hL 2 (by decide) (fun r3 => ps_cell hL 3 (by decide) (fun r4 => ps_cell hL 4 (by decide) (fun r5 => ⟨26, 400, by omega, by omega, ps_lawOf rfl r1 r2 r3 r4 r5⟩)))))
end
