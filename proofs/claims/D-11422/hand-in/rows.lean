section
/-- the law's four periods -/
def so_P (p : Nat) : Prop := p = 6 ∨ p = 20 ∨ p = 72 ∨ p = 360
/-- how far o lies behind w modulo p, both below p -/
def so_bh (p w o : Nat) : Nat := if w ≤ o then o - w else p + o - w
/-- the room at o beside one job of length l at w -/
def so_bs (p l w o : Nat) : Nat := if so_bh p w o < l then 0 else p - so_bh p w o
/-- the room at o beside one slot; length 0: the slot is not used -/
def so_s (p l w o : Nat) : Nat := if l = 0 then p else so_bs p l w o
/-- the room at o beside slot 0 (length u at 0) and slot 1 (length v at w) -/
def so_R (p u v w o : Nat) : Nat := min (so_s p u 0 o) (so_s p v w o)
/-- 0 for 0, else 1 -/
def so_u (n : Nat) : Nat := if n = 0 then 0 else 1
/-- the state: slot 0 holds a job of length u at 0, slot 1 one of length v at w (length 0: none), the others none -/
def so_K (p u v w : Nat) (f : Int32) (a1 a2 a3 a4 : Nat → Int32) : Prop :=
  so_P p ∧ u ≤ p ∧ v ≤ p ∧ f = nI (so_u u + so_u v) ∧ a1 0 = nI (so_u u) ∧ a1 1 = nI (so_u v) ∧ (∀ j, 2 ≤ j → j < 10 → a1 j = 0) ∧
  (u ≠ 0 → 0 < p ∧ a2 0 = nI p ∧ a3 0 = nI u ∧ a4 0 = nI 0) ∧ (v ≠ 0 → w < p ∧ a2 1 = nI p ∧ a3 1 = nI v ∧ a4 1 = nI w)
theorem so_u0 : so_u 0 = 0 := rfl
theorem so_u1 {n : Nat} (h : n ≠ 0) : so_u n = 1 := if_neg h
theorem so_ule (n : Nat) : so_u n ≤ 1 := by
  unfold so_u
  split <;> omega
theorem so_Ple {p : Nat} (h : so_P p) : 2 ≤ p ∧ p ≤ 360 := by
  unfold so_P at h
  omega
theorem so_bhlt {p w o : Nat} (ho : o < p) (hw : w < p) : so_bh p w o < p := by
  unfold so_bh
  split <;> omega
theorem so_bsle (p l w o : Nat) : so_bs p l w o ≤ p := by
  unfold so_bs
  split <;> omega
theorem so_sle (p l w o : Nat) : so_s p l w o ≤ p := by
  unfold so_s
  split
  · omega
  · exact so_bsle p l w o
theorem so_Rle (p u v w o : Nat) : so_R p u v w o ≤ p := by
  have h := so_sle p u 0 o
  unfold so_R
  omega
/-- one job of length u at 0 -/
theorem so_s0 {p u o : Nat} (hu : u ≠ 0) : so_s p u 0 o = if o < u then 0 else p - o := by
  unfold so_s so_bs so_bh
  simp [hu]
theorem so_sN {p w o : Nat} : so_s p 0 w o = p := rfl
/-- one job of length v at w, o ahead of w -/
theorem so_sL {p v w o : Nat} (hv : v ≠ 0) (h : o < w) : so_s p v w o = if p + o - w < v then 0 else p - (p + o - w) := by
  unfold so_s so_bs so_bh
  rw [if_neg hv, if_neg (show ¬ w ≤ o by omega)]
theorem so_sG {p v w o : Nat} (hv : v ≠ 0) (h : w ≤ o) : so_s p v w o = if o - w < v then 0 else p - (o - w) := by
  unfold so_s so_bs so_bh
  rw [if_neg hv, if_pos h]
/-- a difference below 0, above -p: the remainder is itself -/
theorem so_neg {p o w : Nat} (hp : p ≤ 360) (hw : w < p) (h : o < w) : (nI o - nI w) - (nI o - nI w) / nI p * nI p = nI o - nI w := by
  have h1 : (nI o - nI w).toInt = (o : Int) - w := pk_sub_toInt (by omega) (by omega)
  have h2 : (nI p).toInt = (p : Int) := nI_toInt (by omega)
  have h4 : ((o : Int) - w).tdiv p = 0 := by
    have e : (o : Int) - w = -((w : Int) - o) := by omega
    rw [e, Int.neg_tdiv, Int.tdiv_eq_zero_of_lt (by omega) (by omega)]
    rfl
  have h3 : (nI o - nI w) / nI p = 0 := by
    apply Int32.toInt_inj.mp
    rw [Int32.toInt_div, h1, h2, h4]
    rfl
  rw [h3, Int32.zero_mul, Int32.sub_zero]
theorem so_negle {o w : Nat} (hw : w ≤ 360) (h : o < w) : ¬ (0 : Int32) ≤ nI o - nI w := by
  intro hz
  have h1 : (nI o - nI w).toInt = (o : Int) - w := pk_sub_toInt (by omega) (by omega)
  have h2 := Int32.le_iff_toInt_le.mp hz
  rw [h1] at h2
  have h3 : (0 : Int32).toInt = 0 := rfl
  omega
theorem so_wrap {p o w : Nat} (h : w ≤ p + o) : nI o - nI w + nI p = nI (p + o - w) := by
  have e : nI o - nI w + nI p = nI p + nI o - nI w := by grind
  rw [e, nI_add, pk_sub h]
/-- the greatest room beside one job of length u at 0 -/
theorem so_max1 {p u w : Nat} (hu : u ≤ p) : (∀ j, j < p → so_R p u 0 w j ≤ p - u) ∧ (p - u = 0 ∨ ∃ j, j < p ∧ so_R p u 0 w j = p - u) := by
  by_cases h0 : u = 0
  · subst h0
    refine ⟨fun j hj => so_Rle p 0 0 w j, ?_⟩
    rcases Nat.eq_zero_or_pos p with z | z
    · exact Or.inl (by omega)
    · refine Or.inr ⟨0, z, ?_⟩
      unfold so_R
      rw [so_sN, so_sN]
      omega
  · constructor
    · intro j hj
      unfold so_R
      rw [so_s0 h0, so_sN]
      split <;> omega
    · rcases Nat.lt_or_ge u p with z | z
      · refine Or.inr ⟨u, z, ?_⟩
        unfold so_R
        rw [so_s0 h0, so_sN, if_neg (by omega)]
        omega
      · exact Or.inl (by omega)
/-- the greatest room beside [0, u) and [u, u + v) -/
theorem so_max2 {p u v : Nat} (hu : u ≠ 0) (hv : v ≠ 0) (h : u + v ≤ p) : (∀ j, j < p → so_R p u v u j ≤ p - u - v) ∧ (p - u - v = 0 ∨ ∃ j, j < p ∧ so_R p u v u j = p - u - v) := by
  constructor
  · intro j hj
    unfold so_R
    rcases Nat.lt_or_ge j u with z | z
    · rw [so_s0 hu, if_pos z]
      omega
    · rw [so_s0 hu, so_sG hv z, if_neg (by omega)]
      split <;> omega
  · rcases Nat.lt_or_ge (u + v) p with z | z
    · refine Or.inr ⟨u + v, z, ?_⟩
      unfold so_R
      rw [so_s0 hu, so_sG hv (by omega), if_neg (by omega), if_neg (by omega)]
      omega
    · exact Or.inl (by omega)
/-- the time's remainder behind a job at w -/
theorem so_tm {T p w : Nat} (hw : w < p) (h : w ≤ T % p) : w ≤ T ∧ (T - w) % p = T % p - w := by
  have h1 : T % p ≤ T := Nat.mod_le T p
  have h2 : T % p < p := Nat.mod_lt T (by omega)
  have h3 := Nat.div_add_mod T p
  refine ⟨by omega, ?_⟩
  have e : T - w = T % p - w + p * (T / p) := by omega
  rw [e, Nat.add_mul_mod_self_left, Nat.mod_eq_of_lt (by omega)]
end
section
theorem so_gcd {post : Int32 → Prop} {u : St0} {p : Nat} (h0 : 0 < p) (hp : p ≤ 360) (H : post (nI p)) : wpX_gcd post u (nI p) (nI p) := by
  unfold wpX_gcd
  exact ⟨2, pk_le 20 0 (fun z => absurd z (by omega)) (fun _ => pk_le p 0 (fun z => absurd z (by omega)) (fun _ => ⟨nI_ne0 h0 (by omega), nm_r (e' := nI 0) (by rw [pk_rem (by omega) h0 (by omega), Nat.mod_self]) (nm_r (nI_1 0) (pk_le 20 1 (fun z => absurd z (by omega)) (fun _ => pk_le 0 0 (fun _ => H) (fun z => absurd z (by omega)))))⟩))⟩
theorem so_beside {post : Int32 → Prop} {f : Int32} {a1 a2 a3 a4 : Nat → Int32} {i p l w o : Nat} (hi : i < 10) (hp : p ≤ 360) (hl : l ≤ p) (hw : w < p) (ho : o < p)
    (e2 : a2 i = nI p) (e3 : a3 i = nI l) (e4 : a4 i = nI w) (H : post (nI (so_bs p l w o))) : wpX_roomBeside post (f, a1, a2, a3, a4) (nI i) (nI p) (nI o) := by
  have hc : (nI i).toNatClampNeg = i := nI_clamp (by omega)
  have hb : so_bh p w o < p := so_bhlt ho hw
  have tail : wX_roomBeside_37 post (nI i) (nI p) (nI (so_bh p w o)) f a1 a2 a3 a4 := by
    unfold wX_roomBeside_37
    rw [hc, e3]
    refine ⟨pk_in i 10 hi, pk_le l (so_bh p w o) (fun z => ?_) (fun z => ?_)⟩
    · have e : so_bs p l w o = p - so_bh p w o := if_neg (by omega)
      rw [e] at H
      rw [pk_sub (by omega)]
      exact H
    · have e : so_bs p l w o = 0 := if_pos z
      rw [e] at H
      exact H
  unfold wpX_roomBeside
  dsimp only
  rw [hc, e2, e4]
  refine ⟨pk_in i 10 hi, so_gcd (by omega) hp ⟨pk_in i 10 hi, nI_ne0 (by omega) (by omega), ?_⟩⟩
  by_cases hwo : w ≤ o
  · have eb : so_bh p w o = o - w := if_pos hwo
    rw [eb] at tail
    refine nm_r (e' := nI (o - w)) (by rw [pk_sub hwo, pk_rem (by omega) (by omega) (by omega), Nat.mod_eq_of_lt (by omega)]) ?_
    exact br_t (nI_pos' (by omega)) tail
  · have eb : so_bh p w o = p + o - w := if_neg hwo
    rw [eb] at tail
    refine nm_r (so_neg hp hw (by omega)) ?_
    exact br_f (so_negle (by omega) (by omega)) (nm_r (so_wrap (by omega)) tail)
/-- one turn of roomAt at slot i that holds a job of length l at w, or none -/
theorem so_atS {post : Int32 → Prop} {f : Int32} {a1 a2 a3 a4 : Nat → Int32} {n i p l w o r : Nat} (hi : i < 10) (hp : p ≤ 360) (hl : l ≤ p) (ho : o < p) (hr : r ≤ p)
    (e1 : a1 i = nI (so_u l)) (e : l ≠ 0 → w < p ∧ a2 i = nI p ∧ a3 i = nI l ∧ a4 i = nI w) (h0 : r = 0 → post (nI 0))
    (H : wX_roomAt_5 post (nI p) (nI o) f a1 a2 a3 a4 n (nI (min r (so_s p l w o))) (nI (i + 1))) : wX_roomAt_5 post (nI p) (nI o) f a1 a2 a3 a4 (n + 1) (nI r) (nI i) := by
  have hc : (nI i).toNatClampNeg = i := nI_clamp (by omega)
  refine pk_le 10 i (fun z => absurd z (by omega)) (fun _ => pk_le r 0 (fun z => ?_) (fun _ => ⟨pk_in i 10 hi, ?_⟩))
  · have z' : r = 0 := by omega
    rw [z']
    exact h0 z'
  · rw [hc, e1]
    by_cases hl0 : l = 0
    · have em : min r (so_s p l w o) = r := by
        rw [hl0, so_sN]
        omega
      rw [em] at H
      exact br_t (by rw [hl0]; rfl) (nm_r (nI_1 i) H)
    · obtain ⟨hw, e2, e3, e4⟩ := e hl0
      have es : so_s p l w o = so_bs p l w o := if_neg hl0
      rw [es] at H
      have hb := so_bsle p l w o
      refine br_f (by rw [so_u1 hl0]; decide) (so_beside hi hp hl hw ho e2 e3 e4 (pk_le r (so_bs p l w o) (fun z => nm_r (nI_1 i) ?_) (fun z => nm_r (nI_1 i) ?_)))
      · rw [Nat.min_eq_left z] at H
        exact H
      · rw [Nat.min_eq_right (by omega)] at H
        exact H
/-- the slots behind are not used -/
theorem so_atT {post : Int32 → Prop} {f : Int32} {a1 a2 a3 a4 : Nat → Int32} {p o r : Nat} (hr : r ≤ 360) (H : post (nI r)) :
    ∀ k i, i + k = 10 → (∀ j, i ≤ j → j < 10 → a1 j = 0) → wX_roomAt_5 post (nI p) (nI o) f a1 a2 a3 a4 (k + 1) (nI r) (nI i) := by
  intro k
  induction k with
  | zero =>
    intro i hi _
    exact pk_le 10 i (fun _ => H) (fun z => absurd z (by omega))
  | succ k ih =>
    intro i hi hz
    have hc : (nI i).toNatClampNeg = i := nI_clamp (by omega)
    refine pk_le 10 i (fun z => absurd z (by omega)) (fun _ => pk_le r 0 (fun _ => H) (fun _ => ⟨pk_in i 10 (by omega), br_t ?_ (nm_r (nI_1 i) (ih (i + 1) (by omega) (fun j h1 h2 => hz j (by omega) h2)))⟩))
    rw [hc]
    exact hz i (by omega) (by omega)
theorem so_at {post : Int32 → Prop} {f : Int32} {a1 a2 a3 a4 : Nat → Int32} {p u v w o : Nat} (k : so_K p u v w f a1 a2 a3 a4) (ho : o < p) (H : post (nI (so_R p u v w o))) :
    wpX_roomAt post (f, a1, a2, a3, a4) (nI p) (nI o) := by
  obtain ⟨hP, hu, hv, _, e0, e1, ez, k0, k1⟩ := k
  have hp := so_Ple hP
  have h1 := so_sle p u 0 o
  have h2 := so_Rle p u v w o
  have m1 : min p (so_s p u 0 o) = so_s p u 0 o := by omega
  have t : wX_roomAt_5 post (nI p) (nI o) f a1 a2 a3 a4 (8 + 1) (nI (so_R p u v w o)) (nI 2) := so_atT (by omega) H 8 2 rfl ez
  have t1 : wX_roomAt_5 post (nI p) (nI o) f a1 a2 a3 a4 (8 + 1 + 1) (nI (so_s p u 0 o)) (nI 1) := by
    refine so_atS (l := v) (w := w) (by omega) hp.2 hv ho h1 e1 k1 (fun z => ?_) t
    have e : so_R p u v w o = 0 := by
      unfold so_R
      omega
    rw [e] at H
    exact H
  have t0 : wX_roomAt_5 post (nI p) (nI o) f a1 a2 a3 a4 (8 + 1 + 1 + 1) (nI p) (nI 0) := by
    refine so_atS (l := u) (w := 0) (by omega) hp.2 hu ho (by omega) e0 k0 (fun z => absurd z (by omega)) ?_
    rw [m1]
    exact t1
  unfold wpX_roomAt
  exact ⟨8 + 1 + 1 + 1, t0⟩
theorem so_t26 {post : Int32 → St2 → Prop} {x1 x2 x3 f : Int32} {a1 a2 a3 a4 : Nat → Int32} {i : Nat} (hi : i < 10) (H : post (nI i) (f + 1, upd a1 i 1, upd a2 i x1, upd a3 i x2, upd a4 i x3)) :
    wX_take_26 post x1 x2 x3 (nI i) f a1 a2 a3 a4 := by
  unfold wX_take_26
  rw [nI_clamp (show i < 2 ^ 31 by omega)]
  exact ⟨pk_in i 10 hi, nm_e ⟨pk_in i 10 hi, nm_e ⟨pk_in i 10 hi, nm_e ⟨pk_in i 10 hi, nm_e (nm_e H)⟩⟩⟩⟩
/-- slot 0 is taken -/
theorem so_take0 {post : Int32 → St2 → Prop} {f : Int32} {a1 a2 a3 a4 : Nat → Int32} {p v w c : Nat} (k : so_K p 0 v w f a1 a2 a3 a4) (hc : 1 ≤ c) (hcp : c ≤ p)
    (H : ∀ f' b1 b2 b3 b4, so_K p c v w f' b1 b2 b3 b4 → post (nI 0) (f', b1, b2, b3, b4)) : wpX_take post (f, a1, a2, a3, a4) (nI p) (nI c) (nI 0) := by
  obtain ⟨hP, hu, hv, ef, e0, e1, ez, k0, k1⟩ := k
  have hp := so_Ple hP
  have hc0 : c ≠ 0 := by omega
  unfold wpX_take
  refine ⟨1, pk_le 9 0 (fun z => absurd z (by omega)) (fun _ => ⟨pk_in 0 10 (by omega), br_t ?_ (so_t26 (i := 0) (by omega) (H _ _ _ _ _ ⟨hP, hcp, hv, ?_, ?_, ?_, ?_, ?_, ?_⟩))⟩)⟩
  · exact e0
  · rw [ef, so_u1 hc0, so_u0, nI_1, Nat.zero_add, Nat.add_comm]
  · rw [pk_us, so_u1 hc0]
    rfl
  · rw [pk_un (by omega)]
    exact e1
  · intro j h1 h2
    rw [pk_un (by omega)]
    exact ez j h1 h2
  · intro _
    rw [pk_us, pk_us, pk_us]
    exact ⟨by omega, rfl, rfl, rfl⟩
  · intro h
    rw [pk_un (by omega), pk_un (by omega), pk_un (by omega)]
    exact k1 h
/-- slot 1 is taken -/
theorem so_take1 {post : Int32 → St2 → Prop} {f : Int32} {a1 a2 a3 a4 : Nat → Int32} {p u w c o : Nat} (k : so_K p u 0 w f a1 a2 a3 a4) (hu0 : u ≠ 0) (hc : 1 ≤ c) (hcp : c ≤ p) (ho : o < p)
    (H : ∀ f' b1 b2 b3 b4, so_K p u c o f' b1 b2 b3 b4 → post (nI 1) (f', b1, b2, b3, b4)) : wpX_take post (f, a1, a2, a3, a4) (nI p) (nI c) (nI o) := by
  obtain ⟨hP, hu, hv, ef, e0, e1, ez, k0, k1⟩ := k
  have hp := so_Ple hP
  have hc0 : c ≠ 0 := by omega
  have t : wX_take_3 post (nI p) (nI c) (nI o) f a1 a2 a3 a4 1 (nI 1) := by
    refine pk_le 9 1 (fun z => absurd z (by omega)) (fun _ => ⟨pk_in 1 10 (by omega), br_t ?_ (so_t26 (i := 1) (by omega) (H _ _ _ _ _ ⟨hP, hu, hcp, ?_, ?_, ?_, ?_, ?_, ?_⟩))⟩)
    · exact e1
    · rw [ef, so_u1 hc0, so_u0, nI_1]
    · rw [pk_un (by omega)]
      exact e0
    · rw [pk_us, so_u1 hc0]
      rfl
    · intro j h1 h2
      rw [pk_un (by omega)]
      exact ez j h1 h2
    · intro h
      rw [pk_un (by omega), pk_un (by omega), pk_un (by omega)]
      exact k0 h
    · intro _
      rw [pk_us, pk_us, pk_us]
      exact ⟨ho, rfl, rfl, rfl⟩
  unfold wpX_take
  refine ⟨2, pk_le 9 0 (fun z => absurd z (by omega)) (fun _ => ⟨pk_in 0 10 (by omega), br_f ?_ (nm_r (nI_1 0) t)⟩)⟩
  have hx : ¬ a1 0 = 0 := by
    rw [e0, so_u1 hu0]
    decide
  exact hx
theorem so_bad {post : Int32 → Prop} {u : St0} {p : Nat} (h : so_P p) (H : post 0) : wpX_badPeriod post u (nI p) := by
  have hp := so_Ple h
  refine pk_lt p 2 (fun z => absurd z (by omega)) (fun _ => pk_lt 360 p (fun z => absurd z (by omega)) (fun _ => ⟨nI_ne0 (by omega) (by omega), br_t ?_ H⟩))
  rcases h with rfl | rfl | rfl | rfl <;> decide
/-- the offsets are tried in turn: m is the first that has room, or p -/
theorem so_a36 {post : Int32 → St2 → Prop} {f : Int32} {a1 a2 a3 a4 : Nat → Int32} {p u v w c m : Nat} (k : so_K p u v w f a1 a2 a3 a4) (hc : c ≤ p) (hm : m ≤ p)
    (hl : ∀ j, j < m → so_R p u v w j < c) (H0 : m = p → post (-5) (f, a1, a2, a3, a4))
    (H1 : m < p → c ≤ so_R p u v w m ∧ wpX_take post (f, a1, a2, a3, a4) (nI p) (nI c) (nI m)) : ∃ n, wX_admit_36 post (nI p) (nI c) f a1 a2 a3 a4 n 0 := by
  have hp := so_Ple k.1
  have hR := so_Rle p u v w
  refine pk_loop (σ := Unit) (fun n i _ => wX_admit_36 post (nI p) (nI c) f a1 a2 a3 a4 n (nI i)) (fun _ _ => True) m 0 () (by omega) trivial ?_ ?_
  · intro n _ _
    refine pk_le p m (fun z => H0 (by omega)) (fun z => so_at k z ?_)
    have h := H1 z
    have hm' := hR m
    exact pk_lt (so_R p u v w m) c (fun z' => absurd z' (by omega)) (fun _ => h.2)
  · intro n i _ hi _ hw
    have h := hl i hi
    refine pk_le p i (fun z => absurd z (by omega)) (fun z => so_at k z ?_)
    exact pk_lt (so_R p u v w i) c (fun _ => nm_r (nI_1 i) (hw () trivial)) (fun z' => absurd z' (by omega))
theorem so_adBad {post : Int32 → St2 → Prop} {f x : Int32} {a1 a2 a3 a4 : Nat → Int32} {p : Nat} (hP : so_P p) (hx : x < 1 ∨ ¬ x ≤ nI p) (H : post (-2) (f, a1, a2, a3, a4)) :
    wpX_admit post (f, a1, a2, a3, a4) (nI p) x := by
  unfold wpX_admit
  dsimp only
  refine so_bad hP (br_t rfl (br_c (fun _ => H) (fun z => ?_)))
  rcases hx with hx | hx
  · exact absurd hx z
  · exact br_f hx H
theorem so_adOk {post : Int32 → St2 → Prop} {f : Int32} {a1 a2 a3 a4 : Nat → Int32} {p u v w c : Nat} (k : so_K p u v w f a1 a2 a3 a4) (h1 : 1 ≤ c) (hc : c ≤ p)
    (H : ∃ n, wX_admit_36 post (nI p) (nI c) f a1 a2 a3 a4 n 0) : wpX_admit post (f, a1, a2, a3, a4) (nI p) (nI c) := by
  obtain ⟨hP, _, _, ef, _⟩ := k
  have hp := so_Ple hP
  have hu := so_ule u
  have hv := so_ule v
  unfold wpX_admit
  dsimp only
  refine so_bad hP (br_t rfl (pk_lt c 1 (fun z => absurd z (by omega)) (fun _ => pk_le c p (fun _ => ?_) (fun z => absurd z (by omega)))))
  exact pk_lt (so_u u + so_u v) 10 (fun _ => H) (fun z => absurd z (by omega)) ef
theorem so_noJ {post : Int32 → Prop} {f : Int32} {a1 a2 a3 a4 : Nat → Int32} {i : Nat} (hi : i < 10) (H0 : a1 i = 0 → post 1) (H1 : ¬ a1 i = 0 → post 0) : wpX_noJob post (f, a1, a2, a3, a4) (nI i) := by
  unfold wpX_noJob
  dsimp only
  rw [nI_clamp (show i < 2 ^ 31 by omega)]
  exact br_f (nI_pos (by omega)) (pk_le 10 i (fun z => absurd z (by omega)) (fun _ => ⟨pk_in i 10 hi, br_c H0 H1⟩))
theorem so_off {post : Int32 → Prop} {f : Int32} {a1 a2 a3 a4 : Nat → Int32} {i : Nat} (hi : i < 10) (H0 : a1 i = 0 → post (-6)) (H1 : ¬ a1 i = 0 → post (a4 i)) : wpX_offset post (f, a1, a2, a3, a4) (nI i) := by
  unfold wpX_offset
  dsimp only
  refine so_noJ hi (fun z => br_f (by decide) (H0 z)) (fun z => br_t rfl ⟨pk_in i 10 hi, ?_⟩)
  rw [nI_clamp (show i < 2 ^ 31 by omega)]
  exact H1 z
theorem so_room {post : Int32 → Prop} {f : Int32} {a1 a2 a3 a4 : Nat → Int32} {p u v w M : Nat} (k : so_K p u v w f a1 a2 a3 a4)
    (h : (∀ j, j < p → so_R p u v w j ≤ M) ∧ (M = 0 ∨ ∃ j, j < p ∧ so_R p u v w j = M)) (H : post (nI M)) : wpX_room post (f, a1, a2, a3, a4) (nI p) := by
  have hp := so_Ple k.1
  have hR := so_Rle p u v w
  unfold wpX_room
  dsimp only
  refine so_bad k.1 (br_t rfl ?_)
  refine pk_loop (fun n i s => wX_room_13 post (nI p) f a1 a2 a3 a4 n s (nI i)) (fun i s => ∃ q, s = nI q ∧ q ≤ M ∧ q ≤ p ∧ ∀ j, j < i → so_R p u v w j ≤ q) p 0 0 (by omega) ⟨0, rfl, by omega, by omega, fun j hj => absurd hj (by omega)⟩ ?_ ?_
  · intro n s ⟨q, es, hq, _, hj⟩
    have e : q = M := by
      rcases h.2 with z | ⟨j, j1, j2⟩
      · omega
      · have := hj j j1
        omega
    rw [e] at es
    rw [es]
    exact pk_le p p (fun _ => H) (fun z => absurd z (by omega))
  · intro n i s hi ⟨q, es, hq, hqp, hj⟩ hw
    have hRi := hR i
    rw [es]
    refine pk_le p i (fun z => absurd z (by omega)) (fun z => so_at k hi ?_)
    refine pk_le (so_R p u v w i) q (fun z' => nm_r (nI_1 i) (hw _ ⟨q, rfl, hq, hqp, fun j hj' => ?_⟩)) (fun z' => nm_r (nI_1 i) (hw _ ⟨so_R p u v w i, rfl, h.1 i hi, hRi, fun j hj' => ?_⟩))
    · rcases Nat.lt_or_ge j i with y | y
      · exact hj j y
      · rw [show j = i by omega]
        exact z'
    · rcases Nat.lt_or_ge j i with y | y
      · have := hj j y
        omega
      · rw [show j = i by omega]
        omega
theorem so_far {post : Int32 → Prop} {x f : Int32} {a1 a2 a3 a4 : Nat → Int32} (h : x < 0 ∨ ¬ x ≤ 1000000000) (H : post (-7)) : wpX_running post (f, a1, a2, a3, a4) x := by
  unfold wpX_running wpX_badTime
  dsimp only
  refine br_c (fun _ => br_f (by decide) H) (fun z => ?_)
  rcases h with h | h
  · exact absurd h z
  · exact br_f h (br_f (by decide) H)
/-- one turn of running at slot i that holds a job of length l at w, or none -/
theorem so_rnS {post : Int32 → Prop} {f : Int32} {a1 a2 a3 a4 : Nat → Int32} {n i p l w T : Nat} (hi : i < 10) (hp : p ≤ 360) (hl : l ≤ p) (hT : T ≤ 1000000000)
    (e1 : a1 i = nI (so_u l)) (e : l ≠ 0 → w < p ∧ a2 i = nI p ∧ a3 i = nI l ∧ a4 i = nI w) (H1 : l ≠ 0 → w ≤ T → (T - w) % p < l → post (nI i))
    (H0 : ¬ (l ≠ 0 ∧ w ≤ T ∧ (T - w) % p < l) → wX_running_12 post (nI T) f a1 a2 a3 a4 n (nI (i + 1))) : wX_running_12 post (nI T) f a1 a2 a3 a4 (n + 1) (nI i) := by
  have hc : (nI i).toNatClampNeg = i := nI_clamp (by omega)
  have hin : vp_in (nI i) 10 := pk_in i 10 hi
  refine pk_le 10 i (fun z => absurd z (by omega)) (fun _ => ⟨hin, ?_⟩)
  rw [hc, e1]
  by_cases hl0 : l = 0
  · exact br_t (by rw [hl0]; rfl) (nm_r (nI_1 i) (H0 (fun t => t.1 hl0)))
  · obtain ⟨hw, e2, e3, e4⟩ := e hl0
    rw [e2, e3, e4]
    refine br_f (by rw [so_u1 hl0]; decide) ⟨hin, pk_lt T w (fun z => nm_r (nI_1 i) (H0 (fun t => absurd t.2.1 (by omega)))) (fun z => ⟨hin, hin, nI_ne0 (by omega) (by omega), hin, ?_⟩)⟩
    have hm : (T - w) % p < p := Nat.mod_lt _ (by omega)
    rw [pk_sub z, pk_rem (by omega) (by omega) (by omega)]
    exact pk_le l ((T - w) % p) (fun y => nm_r (nI_1 i) (H0 (fun t => absurd t.2.2 (by omega)))) (fun y => H1 hl0 z y)
theorem so_rnT {post : Int32 → Prop} {x f : Int32} {a1 a2 a3 a4 : Nat → Int32} (H : post (-6)) :
    ∀ k i, i + k = 10 → (∀ j, i ≤ j → j < 10 → a1 j = 0) → wX_running_12 post x f a1 a2 a3 a4 (k + 1) (nI i) := by
  intro k
  induction k with
  | zero =>
    intro i hi _
    exact pk_le 10 i (fun _ => H) (fun z => absurd z (by omega))
  | succ k ih =>
    intro i hi hz
    have hc : (nI i).toNatClampNeg = i := nI_clamp (by omega)
    refine pk_le 10 i (fun z => absurd z (by omega)) (fun _ => ⟨pk_in i 10 (by omega), br_t ?_ (nm_r (nI_1 i) (ih (i + 1) (by omega) (fun j h1 h2 => hz j (by omega) h2)))⟩)
    rw [hc]
    exact hz i (by omega) (by omega)
theorem so_run {post : Int32 → Prop} {f : Int32} {a1 a2 a3 a4 : Nat → Int32} {p u v w T : Nat} (k : so_K p u v w f a1 a2 a3 a4) (hT : T ≤ 1000000000)
    (H0 : T % p < u → post (nI 0)) (H1 : u ≤ T % p → v ≠ 0 → w ≤ T → (T - w) % p < v → post (nI 1))
    (H2 : u ≤ T % p → ¬ (v ≠ 0 ∧ w ≤ T ∧ (T - w) % p < v) → post (-6)) : wpX_running post (f, a1, a2, a3, a4) (nI T) := by
  obtain ⟨hP, hu, hv, _, e0, e1, ez, k0, k1⟩ := k
  have hp := so_Ple hP
  have t : wX_running_12 post (nI T) f a1 a2 a3 a4 (8 + 1 + 1 + 1) (nI 0) := by
    refine so_rnS (l := u) (w := 0) (by omega) hp.2 hu hT e0 k0 (fun _ _ z => H0 z) (fun z => ?_)
    have hz : u ≤ T % p := by
      rcases Nat.lt_or_ge (T % p) u with y | y
      · exact absurd ⟨by omega, by omega, y⟩ z
      · exact y
    exact so_rnS (l := v) (w := w) (by omega) hp.2 hv hT e1 k1 (H1 hz) (fun y => so_rnT (H2 hz y) 8 2 rfl ez)
  unfold wpX_running wpX_badTime
  dsimp only
  exact br_f (nI_pos (by omega)) (pk_le T 1000000000 (fun _ => br_t rfl ⟨_, t⟩) (fun z => absurd z (by omega)))
theorem so_rmv {post : Int32 → St2 → Prop} {f : Int32} {a1 a2 a3 a4 : Nat → Int32} {p u v w : Nat} (k : so_K p u v w f a1 a2 a3 a4) (hu0 : u ≠ 0)
    (H : ∀ f' b1, so_K p 0 v w f' b1 a2 a3 a4 → post (nI (so_u v)) (f', b1, a2, a3, a4)) : wpX_remove post (f, a1, a2, a3, a4) (nI 0) := by
  obtain ⟨hP, hu, hv, ef, e0, e1, ez, k0, k1⟩ := k
  have ef' : f - 1 = nI (so_u v) := by
    rw [ef, so_u1 hu0, Nat.add_comm, nI_pred]
  unfold wpX_remove
  dsimp only
  rw [nI_clamp (show 0 < 2 ^ 31 by omega)]
  refine so_noJ (i := 0) (by omega) (fun z => ?_) (fun _ => br_t rfl ⟨pk_in 0 10 (by omega), nm_e (nm_r ef' (H _ _ ⟨hP, by omega, hv, ?_, ?_, ?_, ?_, ?_, k1⟩))⟩)
  · rw [e0, so_u1 hu0] at z
    exact absurd z (by decide)
  · rw [so_u0, Nat.zero_add]
  · rw [pk_us]
    rfl
  · rw [pk_un (by omega)]
    exact e1
  · intro j h1 h2
    rw [pk_un (by omega)]
    exact ez j h1 h2
  · intro h
    exact absurd rfl h
end
section
/-- the law's last check, where the first job was admitted -/
theorem so_338 {post : Int32 → St0 → Prop} {mc ms kc ks : Nat} {f : Int32} {a1 a2 a3 a4 : Nat → Int32} {p A v w : Nat} (k : so_K p A v w f a1 a2 a3 a4) (hA : 1 ≤ A) (hw : v ≠ 0 → w = A ∧ A + v ≤ p)
    (hP : post 1 ()) {z : Int32} (hz : z = nI (so_u v)) : wL_lawOf_338 post mc ms (nI A) (nI p) 1 z kc ks f a1 a2 a3 a4 := by
  unfold wL_lawOf_338
  refine br_f (by decide) (so_rmv k (by omega) (fun f' b1 k' => br_t hz.symm ?_))
  have hAp : A ≤ p := k.2.1
  refine so_adOk k' hA hAp (so_a36 k' (m := 0) hAp (by omega) (fun j hj => absurd hj (by omega)) (fun z => absurd z (by omega)) (fun _ => ⟨?_, so_take0 k' hA hAp (fun f'' c1 c2 c3 c4 k'' => br_t rfl (so_off (i := 0) (by omega) (fun y => ?_) (fun _ => br_t ?_ hP)))⟩))
  · unfold so_R
    rw [so_sN]
    by_cases hv : v = 0
    · rw [hv, so_sN]
      omega
    · obtain ⟨w1, w2⟩ := hw hv
      rw [so_sL hv (by omega), if_neg (by omega)]
      omega
  · obtain ⟨_, _, _, _, e0, _⟩ := k''
    rw [e0, so_u1 (by omega)] at y
    exact absurd y (by decide)
  · obtain ⟨_, _, _, _, _, _, _, k0, _⟩ := k''
    exact (k0 (by omega)).2.2.2
/-- what the law asks behind the second entry, out of what the calls answer -/
theorem so_196 {post : Int32 → St0 → Prop} {mc ms kc ks : Nat} {f x1 x3 x6 x8 x9 x10 x11 z0 z1 : Int32} {a1 a2 a3 a4 : Nat → Int32} {p X Y : Nat} (hP : so_P p) (hXY : X + Y ≤ p)
    (h8 : x8 = nI X) (h9 : x9 = nI (so_u Y)) (h10 : x10 = nI Y) (hz : z1 = z0)
    (hoff : ∀ ψ : Int32 → Prop, (Y = 0 → ψ (-6)) → (Y ≠ 0 → ψ (nI X)) → wpX_offset ψ (f, a1, a2, a3, a4) x11)
    (hroom : ∀ ψ : Int32 → Prop, ψ (nI (p - X - Y)) → wpX_room ψ (f, a1, a2, a3, a4) (nI p))
    (hrun : ∀ (T : Nat), T ≤ 1000000000 → ∀ ψ : Int32 → Prop, (T % p < X → ψ 0) → (X ≤ T % p → T % p < X + Y → ψ x11) → (X + Y ≤ T % p → ψ (-6)) → wpX_running ψ (f, a1, a2, a3, a4) (nI T))
    (hT : ∀ due : Int32, (∀ ψ : Int32 → Prop, ψ due → wpX_running ψ (f, a1, a2, a3, a4) x3) → wL_lawOf_305 post mc ms x1 x3 (nI p) x6 x9 due kc ks f a1 a2 a3 a4) :
    wL_lawOf_196 post mc ms x1 x3 (nI p) x6 x8 x9 x10 x11 z0 z1 kc ks f a1 a2 a3 a4 := by
  have hp := so_Ple hP
  have far : (x3 < 0 ∨ ¬ x3 ≤ 1000000000) → wL_lawOf_253 post mc ms x1 x3 (nI p) x6 x8 x9 x10 x11 kc ks f a1 a2 a3 a4 := by
    intro h
    unfold wL_lawOf_253 wL_lawOf_258
    exact br_f (by decide) (hT (-7) (fun ψ hψ => so_far h hψ))
  have near : ¬ x3 < 0 → x3 ≤ 1000000000 → wL_lawOf_258 post mc ms x1 x3 (nI p) x6 x8 x9 x10 x11 0 kc ks f a1 a2 a3 a4 := by
    intro h1 h2
    obtain ⟨T, hT1, e⟩ := nI_of2 (n := 1000000000) (by decide) h1 h2
    have hr : T % p < p := Nat.mod_lt T (by omega)
    unfold wL_lawOf_258
    refine br_t rfl ⟨nI_ne0 (by omega) (by omega), nm_r (e' := nI (T % p)) (by rw [e, pk_rem (by omega) (by omega) (by omega)]) ?_⟩
    unfold wL_lawOf_303
    refine pk_le X (T % p) (fun g => ?_) (fun g => hT 0 (fun ψ hψ => ?_)) h8
    · refine pk_le (X + Y) (T % p) (fun g2 => hT (-6) (fun ψ hψ => ?_)) (fun g2 => hT x11 (fun ψ hψ => ?_)) (by rw [h8, h10, nI_add])
      · rw [e]
        exact hrun T hT1 ψ (fun y => absurd y (by omega)) (fun _ y => absurd y (by omega)) (fun _ => hψ)
      · rw [e]
        exact hrun T hT1 ψ (fun y => absurd y (by omega)) (fun _ _ => hψ) (fun y => absurd y (by omega))
    · rw [e]
      exact hrun T hT1 ψ (fun _ => hψ) (fun y => absurd y (by omega)) (fun y => absurd y (by omega))
  have t : ∀ z : Int32, wL_lawOf_220 post mc ms x1 x3 (nI p) x6 x8 x9 x10 x11 z z kc ks f a1 a2 a3 a4 := by
    intro z
    unfold wL_lawOf_220
    refine br_t rfl (hroom _ (br_t ?_ (br_c (fun g => far (Or.inl g)) (fun g => br_c (fun g2 => near g g2) (fun g2 => far (Or.inr g2))))))
    rw [h8, h10, pk_sub (by omega), pk_sub (by omega)]
  unfold wL_lawOf_196
  refine br_t hz (hoff _ (fun y => br_t ?_ (t _)) (fun y => br_f ?_ ?_))
  · rw [h9, y]
    rfl
  · rw [h9, so_u1 y]
    decide
  · have t' := t (nI X)
    rw [← h8] at t'
    rw [← h8]
    exact t'
/-- the first job was admitted: X at 0; then Y at X, or none -/
theorem so_196a {post : Int32 → St0 → Prop} {mc ms kc ks : Nat} {f x1 x3 x6 x8 x9 x10 x11 z0 z1 : Int32} {a1 a2 a3 a4 : Nat → Int32} {p X Y w : Nat} (k : so_K p X Y w f a1 a2 a3 a4) (hX : 1 ≤ X) (hXY : X + Y ≤ p) (hw : Y ≠ 0 → w = X) (hP : post 1 ())
    (h1 : x1 = nI X) (h6 : x6 = nI 1) (h8 : x8 = nI X) (h9 : x9 = nI (so_u Y)) (h10 : x10 = nI Y) (h11 : x11 = nI 1) (hz : z1 = z0) :
    wL_lawOf_196 post mc ms x1 x3 (nI p) x6 x8 x9 x10 x11 z0 z1 kc ks f a1 a2 a3 a4 := by
  have hPp := k.1
  have hp := so_Ple hPp
  refine so_196 hPp hXY h8 h9 h10 hz (fun ψ g0 g1 => ?_) (fun ψ g => ?_) (fun T hT ψ g0 g1 g2 => ?_) (fun due hd => ?_)
  · rw [h11]
    obtain ⟨_, _, _, _, _, e1, _, _, k1⟩ := k
    refine so_off (i := 1) (by omega) (fun y => g0 ?_) (fun y => ?_)
    · rcases Nat.eq_zero_or_pos Y with z | z
      · exact z
      · rw [e1, so_u1 (by omega)] at y
        exact absurd y (by decide)
    · have hY : Y ≠ 0 := by
        intro z
        rw [z] at e1
        exact y e1
      rw [(k1 hY).2.2.2, hw hY]
      exact g1 hY
  · refine so_room k ?_ g
    by_cases hY : Y = 0
    · subst hY
      exact so_max1 (by omega)
    · rw [hw hY]
      exact so_max2 (by omega) hY hXY
  · refine so_run k hT g0 (fun y hY yw yr => ?_) (fun y yn => ?_)
    · have ew := hw hY
      subst ew
      have ht := so_tm (T := T) (p := p) (w := w) (by omega) y
      rw [← h11]
      exact g1 y (by omega)
    · refine g2 ?_
      rcases Nat.lt_or_ge (T % p) (X + Y) with q | q
      · have hY : Y ≠ 0 := by omega
        have ew := hw hY
        subst ew
        have ht := so_tm (T := T) (p := p) (w := w) (by omega) y
        exact absurd ⟨hY, ht.1, by omega⟩ yn
      · exact q
  · unfold wL_lawOf_305
    refine hd _ (br_t rfl ?_)
    rw [h1, h6]
    by_cases hY : Y = 0
    · refine br_f (by decide) (br_t (by rw [h9, hY]; rfl) (so_338 k hX (fun q => absurd hY q) hP (by rw [hY]; rfl)))
    · refine br_f (by decide) (br_f (by rw [h9, so_u1 hY]; decide) (so_338 k hX (fun q => ⟨hw q, hXY⟩) hP (by rw [so_u1 hY]; rfl)))
/-- the first job was refused: Y at 0, or none -/
theorem so_196b {post : Int32 → St0 → Prop} {mc ms kc ks : Nat} {f x1 x3 x6 x8 x9 x10 x11 z0 z1 : Int32} {a1 a2 a3 a4 : Nat → Int32} {p Y w : Nat} (k : so_K p Y 0 w f a1 a2 a3 a4) (hP : post 1 ())
    (h6 : x6 = nI 0) (h8 : x8 = nI 0) (h9 : x9 = nI (so_u Y)) (h10 : x10 = nI Y) (h11 : x11 = nI 0) (hz : z1 = z0) :
    wL_lawOf_196 post mc ms x1 x3 (nI p) x6 x8 x9 x10 x11 z0 z1 kc ks f a1 a2 a3 a4 := by
  have hPp := k.1
  have hp := so_Ple hPp
  have hYp : Y ≤ p := k.2.1
  refine so_196 (X := 0) hPp (by omega) h8 h9 h10 hz (fun ψ g0 g1 => ?_) (fun ψ g => ?_) (fun T hT ψ g0 g1 g2 => ?_) (fun due hd => ?_)
  · rw [h11]
    obtain ⟨_, _, _, _, e0, _, _, k0, _⟩ := k
    refine so_off (i := 0) (by omega) (fun y => g0 ?_) (fun y => ?_)
    · rcases Nat.eq_zero_or_pos Y with z | z
      · exact z
      · rw [e0, so_u1 (by omega)] at y
        exact absurd y (by decide)
    · have hY : Y ≠ 0 := by
        intro z
        rw [z] at e0
        exact y e0
      rw [(k0 hY).2.2.2]
      exact g1 hY
  · rw [Nat.sub_zero] at g
    exact so_room k (so_max1 hYp) g
  · refine so_run k hT (fun y => ?_) (fun y hY _ _ => absurd rfl hY) (fun y _ => g2 (by omega))
    rw [← h11]
    exact g1 (by omega) (by omega)
  · unfold wL_lawOf_305
    refine hd _ (br_t rfl (br_t h6 ?_))
    unfold wL_lawOf_338
    exact br_t h6 hP
/-- a number that lies in 1 .. p, or not -/
theorem so_in {p : Nat} (hp : p ≤ 360) (x : Int32) : (x < 1 ∨ ¬ x ≤ nI p) ∨ ∃ c : Nat, 1 ≤ c ∧ c ≤ p ∧ x = nI c := by
  by_cases h1 : x < 1
  · exact Or.inl (Or.inl h1)
  · by_cases h2 : x ≤ nI p
    · have h0 : ¬ x < 0 := by
        intro h
        apply h1
        rw [Int32.lt_iff_toInt_lt] at h ⊢
        have e0 : (0 : Int32).toInt = 0 := rfl
        have e1 : (1 : Int32).toInt = 1 := rfl
        omega
      obtain ⟨c, hc, e⟩ := nI_of2 (n := p) (nI_toInt (by omega)) h0 h2
      refine Or.inr ⟨c, ?_, hc, e⟩
      rcases Nat.eq_zero_or_pos c with z | z
      · rw [e, z] at h1
        exact absurd (show nI 0 < 1 by decide) h1
      · exact z
    · exact Or.inl (Or.inr h2)
theorem so_nle {x y : Int32} (h : ¬ x ≤ y) : y < x := by
  rw [Int32.le_iff_toInt_le] at h
  rw [Int32.lt_iff_toInt_lt]
  omega
theorem so_K0 {p : Nat} (hP : so_P p) : so_K p 0 0 0 0 (fun _ => 0) (fun _ => 0) (fun _ => 0) (fun _ => 0) :=
  ⟨hP, by omega, by omega, rfl, rfl, rfl, fun _ _ _ => rfl, fun h => absurd rfl h, fun h => absurd rfl h⟩
/-- the first entry, where it takes: the rest for every state that then stands -/
theorem so_128a {post : Int32 → St0 → Prop} {mc ms kc ks : Nat} {x2 x3 x7 x8 x9 x10 : Int32} {p A : Nat} (hP : so_P p) (hA : 1 ≤ A) (hAp : A ≤ p)
    (H : ∀ f b1 b2 b3 b4, so_K p A 0 0 f b1 b2 b3 b4 → wL_lawOf_164 post mc ms (nI A) x2 x3 (nI p) 1 x7 x8 x9 x10 1 kc ks f b1 b2 b3 b4) :
    wL_lawOf_128 post mc ms (nI A) x2 x3 (nI p) 1 x7 x8 x9 x10 kc ks 0 (fun _ => 0) (fun _ => 0) (fun _ => 0) (fun _ => 0) := by
  have k := so_K0 hP
  have hp := so_Ple hP
  unfold wL_lawOf_128
  refine so_adOk k hA hAp (so_a36 k (m := 0) hAp (by omega) (fun j hj => absurd hj (by omega)) (fun z => absurd z (by omega)) (fun _ => ⟨?_, so_take0 k hA hAp (fun f b1 b2 b3 b4 k' => br_f (by decide) ?_)⟩))
  · unfold so_R
    rw [so_sN]
    omega
  · unfold wL_lawOf_149
    exact br_t rfl (br_f (by decide) (H f b1 b2 b3 b4 k'))
theorem so_128b {post : Int32 → St0 → Prop} {mc ms kc ks : Nat} {x1 x2 x3 x7 x8 x9 x10 : Int32} {p : Nat} (hP : so_P p) (h1 : x1 < 1 ∨ ¬ x1 ≤ nI p)
    (H : wL_lawOf_164 post mc ms x1 x2 x3 (nI p) 0 x7 x8 x9 x10 0 kc ks 0 (fun _ => 0) (fun _ => 0) (fun _ => 0) (fun _ => 0)) :
    wL_lawOf_128 post mc ms x1 x2 x3 (nI p) 0 x7 x8 x9 x10 kc ks 0 (fun _ => 0) (fun _ => 0) (fun _ => 0) (fun _ => 0) := by
  unfold wL_lawOf_128
  refine so_adBad hP h1 (br_t rfl ?_)
  unfold wL_lawOf_149
  exact br_t rfl (br_t rfl H)
/-- the first was admitted, the second's length is bad -/
theorem so_164ab {post : Int32 → St0 → Prop} {mc ms kc ks : Nat} {x2 x3 f : Int32} {a1 a2 a3 a4 : Nat → Int32} {p A : Nat} (k : so_K p A 0 0 f a1 a2 a3 a4) (hA : 1 ≤ A) (h2 : x2 < 1 ∨ ¬ x2 ≤ nI p) (hP : post 1 ()) :
    wL_lawOf_164 post mc ms (nI A) x2 x3 (nI p) 1 0 (nI A) 0 0 1 kc ks f a1 a2 a3 a4 := by
  unfold wL_lawOf_164
  exact so_adBad k.1 h2 (br_t rfl (so_196a k hA k.2.1 (fun h => absurd rfl h) hP rfl rfl rfl rfl rfl rfl rfl))
/-- the first was admitted, there is no room for the second -/
theorem so_164an {post : Int32 → St0 → Prop} {mc ms kc ks : Nat} {x3 f : Int32} {a1 a2 a3 a4 : Nat → Int32} {p A B : Nat} (k : so_K p A 0 0 f a1 a2 a3 a4) (hA : 1 ≤ A) (hB : 1 ≤ B) (hBp : B ≤ p) (hn : p < A + B) (hP : post 1 ()) :
    wL_lawOf_164 post mc ms (nI A) (nI B) x3 (nI p) 1 1 (nI A) 0 0 1 kc ks f a1 a2 a3 a4 := by
  unfold wL_lawOf_164
  refine so_adOk k hB hBp (so_a36 k (m := p) hBp (by omega) (fun j hj => ?_) (fun _ => br_f (by decide) (br_t rfl (so_196a k hA k.2.1 (fun h => absurd rfl h) hP rfl rfl rfl rfl rfl rfl rfl))) (fun z => absurd z (by omega)))
  unfold so_R
  rw [so_s0 (by omega), so_sN]
  split <;> omega
/-- both are admitted -/
theorem so_164as {post : Int32 → St0 → Prop} {mc ms kc ks : Nat} {x3 f : Int32} {a1 a2 a3 a4 : Nat → Int32} {p A B : Nat} (k : so_K p A 0 0 f a1 a2 a3 a4) (hA : 1 ≤ A) (hB : 1 ≤ B) (hn : A + B ≤ p) (hP : post 1 ()) :
    wL_lawOf_164 post mc ms (nI A) (nI B) x3 (nI p) 1 1 (nI A) 1 (nI B) 1 kc ks f a1 a2 a3 a4 := by
  have hB0 : so_u B = 1 := so_u1 (by omega)
  unfold wL_lawOf_164
  refine so_adOk k hB (by omega) (so_a36 k (m := A) (by omega) (by omega) (fun j hj => ?_) (fun z => absurd z (by omega)) (fun _ => ⟨?_, so_take1 k (by omega) hB (by omega) (by omega) (fun f' b1 b2 b3 b4 k' => br_f (by decide) (br_f (by decide) (so_196a k' hA hn (fun _ => rfl) hP rfl rfl rfl (by rw [hB0]; rfl) rfl rfl rfl)))⟩))
  · unfold so_R
    rw [so_s0 (by omega), if_pos hj]
    omega
  · unfold so_R
    rw [so_s0 (by omega), so_sN, if_neg (by omega)]
    omega
/-- the first was refused, the second's length is bad -/
theorem so_164bb {post : Int32 → St0 → Prop} {mc ms kc ks : Nat} {x1 x2 x3 : Int32} {p : Nat} (hPp : so_P p) (h2 : x2 < 1 ∨ ¬ x2 ≤ nI p) (hP : post 1 ()) :
    wL_lawOf_164 post mc ms x1 x2 x3 (nI p) 0 0 0 0 0 0 kc ks 0 (fun _ => 0) (fun _ => 0) (fun _ => 0) (fun _ => 0) := by
  unfold wL_lawOf_164
  exact so_adBad hPp h2 (br_t rfl (so_196b (so_K0 hPp) hP rfl rfl rfl rfl rfl rfl))
/-- the first was refused, the second is admitted -/
theorem so_164bs {post : Int32 → St0 → Prop} {mc ms kc ks : Nat} {x1 x3 : Int32} {p B : Nat} (hPp : so_P p) (hB : 1 ≤ B) (hBp : B ≤ p) (hP : post 1 ()) :
    wL_lawOf_164 post mc ms x1 (nI B) x3 (nI p) 0 1 0 1 (nI B) 0 kc ks 0 (fun _ => 0) (fun _ => 0) (fun _ => 0) (fun _ => 0) := by
  have k := so_K0 hPp
  have hp := so_Ple hPp
  have hB0 : so_u B = 1 := so_u1 (by omega)
  unfold wL_lawOf_164
  refine so_adOk k hB hBp (so_a36 k (m := 0) hBp (by omega) (fun j hj => absurd hj (by omega)) (fun z => absurd z (by omega)) (fun _ => ⟨?_, so_take0 k hB hBp (fun f b1 b2 b3 b4 k' => br_f (by decide) (br_f (by decide) (so_196b k' hP rfl rfl (by rw [hB0]; rfl) rfl rfl rfl)))⟩))
  unfold so_R
  rw [so_sN]
  omega
end
section
theorem so_47 {post : Int32 → St0 → Prop} {mc ms kc ks : Nat} (x1 x2 x3 : Int32) {p : Nat} (hPp : so_P p) (hP : post 1 ()) :
    wL_lawOf_47 post mc ms x1 x2 x3 (nI p) kc ks 0 (fun _ => 0) (fun _ => 0) (fun _ => 0) (fun _ => 0) := by
  have hp := so_Ple hPp
  rcases so_in hp.2 x1 with h1 | ⟨A, hA, hAp, e1⟩
  · have t : wL_lawOf_65 post mc ms x1 x2 x3 (nI p) 0 kc ks 0 (fun _ => 0) (fun _ => 0) (fun _ => 0) (fun _ => 0) := by
      rcases so_in hp.2 x2 with h2 | ⟨B, hB, hBp, e2⟩
      · have s : wL_lawOf_82 post mc ms x1 x2 x3 (nI p) 0 kc ks 0 (fun _ => 0) (fun _ => 0) (fun _ => 0) (fun _ => 0) := by
          unfold wL_lawOf_82 wL_lawOf_83
          refine br_t rfl ?_
          unfold wL_lawOf_95
          refine br_t rfl ?_
          unfold wL_lawOf_115 wL_lawOf_116
          exact br_t rfl (so_128b hPp h1 (so_164bb hPp h2 hP))
        unfold wL_lawOf_65
        refine br_c (fun _ => s) (fun z => br_t ?_ s)
        rcases h2 with h2 | h2
        · exact absurd h2 z
        · exact so_nle h2
      · subst e2
        unfold wL_lawOf_65
        refine pk_lt B 1 (fun z => absurd z (by omega)) (fun _ => pk_lt p B (fun z => absurd z (by omega)) (fun _ => ?_))
        unfold wL_lawOf_83
        refine br_t rfl ?_
        unfold wL_lawOf_95
        refine br_f (by decide) (br_f ?_ ?_)
        · rw [← nI_0, nI_add]
          exact nI_nlt (by omega) (by omega)
        · unfold wL_lawOf_116
          exact br_f (by decide) (so_128b hPp h1 (so_164bs hPp hB hBp hP))
    unfold wL_lawOf_47 wL_lawOf_64
    refine br_c (fun _ => t) (fun z => br_t ?_ t)
    rcases h1 with h1 | h1
    · exact absurd h1 z
    · exact so_nle h1
  · subst e1
    unfold wL_lawOf_47
    refine pk_lt A 1 (fun z => absurd z (by omega)) (fun _ => pk_lt p A (fun z => absurd z (by omega)) (fun _ => ?_))
    rcases so_in hp.2 x2 with h2 | ⟨B, hB, hBp, e2⟩
    · have s : wL_lawOf_82 post mc ms (nI A) x2 x3 (nI p) 1 kc ks 0 (fun _ => 0) (fun _ => 0) (fun _ => 0) (fun _ => 0) := by
        unfold wL_lawOf_82 wL_lawOf_83
        refine br_f (by decide) ?_
        unfold wL_lawOf_95
        refine br_t rfl ?_
        unfold wL_lawOf_115 wL_lawOf_116
        exact br_t rfl (so_128a hPp hA hAp (fun f b1 b2 b3 b4 k => so_164ab k hA h2 hP))
      unfold wL_lawOf_65
      refine br_c (fun _ => s) (fun z => br_t ?_ s)
      rcases h2 with h2 | h2
      · exact absurd h2 z
      · exact so_nle h2
    · subst e2
      unfold wL_lawOf_65
      refine pk_lt B 1 (fun z => absurd z (by omega)) (fun _ => pk_lt p B (fun z => absurd z (by omega)) (fun _ => ?_))
      unfold wL_lawOf_83
      refine br_f (by decide) ?_
      unfold wL_lawOf_95
      refine br_f (by decide) (pk_lt p (A + B) (fun z => ?_) (fun z => ?_) rfl (nI_add A B))
      · unfold wL_lawOf_115 wL_lawOf_116
        exact br_t rfl (so_128a hPp hA hAp (fun f b1 b2 b3 b4 k => so_164an k hA hB hBp z hP))
      · unfold wL_lawOf_116
        exact br_f (by decide) (so_128a hPp hA hAp (fun f b1 b2 b3 b4 k => so_164as k hA hB z hP))
theorem so_lawOf (x0 x1 x2 x3 : Int32) : wpL_lawOf (fun r _ => r = 1) 5 45 () x0 x1 x2 x3 := by
  unfold wpL_lawOf
  refine ⟨by omega, by omega, 4, 40, by omega, by omega, ?_⟩
  unfold wpX_init
  refine ⟨by omega, by omega, by omega, by omega, by omega, by omega, by omega, by omega, ?_⟩
  exact br_c (fun _ => so_47 (p := 6) x1 x2 x3 (Or.inl rfl) rfl) (fun _ => br_c (fun _ => so_47 (p := 20) x1 x2 x3 (Or.inr (Or.inl rfl)) rfl) (fun _ => br_c (fun _ => so_47 (p := 72) x1 x2 x3 (Or.inr (Or.inr (Or.inl rfl))) rfl) (fun _ => so_47 (p := 360) x1 x2 x3 (Or.inr (Or.inr (Or.inr rfl))) rfl)))
theorem so_cell {post : Int32 → Prop} {L : Nat} {xs : Nat → Int32} {u : St0} (hL : L ≤ 4) (i : Nat) (hi : i < 4) (H : ∀ r, post r) : wpL_cellAt post L xs u (nI i) := by
  unfold wpL_cellAt
  exact pk_le L i (fun _ => H _) (fun z => ⟨pk_in i L z, H _⟩)
theorem i_vc (xs : Nat → Int32) (L : Nat) (hL : L ≤ 4) : wpL_law (fun r => r = 1) L xs := by
  unfold wpL_law
  exact so_cell hL 0 (by omega) (fun r0 => so_cell hL 1 (by omega) (fun r1 => so_cell hL 2 (by omega) (fun r2 => so_cell hL 3 (by omega) (fun r3 => ⟨5, 45, by omega, by omega, so_lawOf r0 r1 r2 r3⟩))))
end
