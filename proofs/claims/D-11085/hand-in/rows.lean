section
/-! sums over the numbers below n, weighed -/
/-- the sum of f over the numbers below n -/
def qd_S (f : Nat → Int32) : Nat → Int32
  | 0 => 0
  | n + 1 => qd_S f n + f n
theorem qd_S_ext {f g : Nat → Int32} : ∀ n, (∀ j, j < n → f j = g j) → qd_S f n = qd_S g n
  | 0, _ => rfl
  | n + 1, h => by
    show qd_S f n + f n = qd_S g n + g n
    rw [qd_S_ext n (fun j hj => h j (by omega)), h n (by omega)]
theorem qd_S_zero {f : Nat → Int32} : ∀ n, (∀ j, j < n → f j = 0) → qd_S f n = 0
  | 0, _ => rfl
  | n + 1, h => by
    show qd_S f n + f n = 0
    rw [qd_S_zero n (fun j hj => h j (by omega)), h n (by omega)]
    rfl
/-- one place alone holds something -/
theorem qd_S_one {f : Nat → Int32} {k : Nat} : ∀ n, k < n → (∀ j, j < n → j ≠ k → f j = 0) → qd_S f n = f k
  | 0, h, _ => absurd h (by omega)
  | n + 1, h, hz => by
    show qd_S f n + f n = f k
    by_cases e : k = n
    · rw [qd_S_zero n (fun j hj => hz j (by omega) (by omega)), e]
      exact Int32.zero_add _
    · rw [qd_S_one n (by omega) (fun j hj hk => hz j (by omega) hk), hz n (by omega) (by omega)]
      exact Int32.add_zero _
theorem qd_ring1 (a v h s t : Int32) (e : s = t) : s + (a + v) * h = t + a * h + v * h := by grind
theorem qd_ring2 (s t v x : Int32) (e : s = t + v) : s + x = t + x + v := by grind
/-- a place k below n gains v: the weighed sum gains v times k's weight -/
theorem qd_S_upd (a h : Nat → Int32) (k : Nat) (v : Int32) : ∀ n, k < n → qd_S (fun x => upd a k (a k + v) x * h x) n = qd_S (fun x => a x * h x) n + v * h k
  | 0, z => absurd z (by omega)
  | n + 1, z => by
    show qd_S (fun x => upd a k (a k + v) x * h x) n + upd a k (a k + v) n * h n = qd_S (fun x => a x * h x) n + a n * h n + v * h k
    by_cases e : k = n
    · rw [← e, pk_us]
      refine qd_ring1 _ _ _ _ _ (qd_S_ext k (fun j hj => ?_))
      show upd a k (a k + v) j * h j = a j * h j
      rw [pk_un (by omega)]
    · rw [pk_un (by omega)]
      exact qd_ring2 _ _ _ _ (qd_S_upd a h k v n (by omega))
/-! bits -/
theorem qd_sl : ∀ n, n < 32 → ((nI n &&& 31).toBitVec.smod 32).toNat = n := by decide +kernel
theorem qd_and (a b : Nat) : nI a &&& nI b = nI (a &&& b) := by
  apply Int32.toBitVec_inj.1
  show BitVec.ofNat 32 a &&& BitVec.ofNat 32 b = BitVec.ofNat 32 (a &&& b)
  apply BitVec.eq_of_getLsbD_eq
  intro i hi
  simp [hi]
theorem qd_xor (a b : Nat) : nI a ^^^ nI b = nI (a ^^^ b) := by
  apply Int32.toBitVec_inj.1
  show BitVec.ofNat 32 a ^^^ BitVec.ofNat 32 b = BitVec.ofNat 32 (a ^^^ b)
  apply BitVec.eq_of_getLsbD_eq
  intro i hi
  simp [hi]
theorem qd_or (a b : Nat) : nI a ||| nI b = nI (a ||| b) := by
  apply Int32.toBitVec_inj.1
  show BitVec.ofNat 32 a ||| BitVec.ofNat 32 b = BitVec.ofNat 32 (a ||| b)
  apply BitVec.eq_of_getLsbD_eq
  intro i hi
  simp [hi]
/-- bit b of x -/
def qd_b (x b : Nat) : Nat := x / 2 ^ b % 2
theorem qd_b_lt (x b : Nat) : qd_b x b < 2 := Nat.mod_lt _ (by decide)
theorem qd_bit {x b : Nat} (hx : x < 2048) (hb : b < 32) : (nI x >>> (nI b &&& 31)) &&& 1 = nI (qd_b x b) := by
  have h := Nat.div_le_self x (2 ^ b)
  rw [pk_shrN (by omega) _ b (qd_sl b hb), pk_andN (by omega) 1 (by decide)]
  rfl
theorem qd_1 {b : Nat} (hb : b < 31) : (1 : Int32) <<< (nI b &&& 31) = nI (2 ^ b) := by
  have h : 1 * 2 ^ b < 2 ^ 32 := by
    rw [Nat.one_mul]
    exact Nat.pow_lt_pow_right (by omega) (by omega)
  have t := pk_shlN (n := 1) (nI b &&& 31) b (qd_sl b (by omega)) h
  rw [Nat.one_mul] at t
  exact t
/-- the set x with mark b moved to t -/
def qd_nx (x b t : Nat) : Nat := (x &&& (2 ^ b ^^^ 4294967295)) ||| 2 ^ t
theorem qd_nxI {x b t : Nat} (hb : b < 31) (ht : t < 31) : (nI x &&& (((1 : Int32) <<< (nI b &&& 31)) ^^^ (-1))) ||| ((1 : Int32) <<< (nI t &&& 31)) = nI (qd_nx x b t) := by
  rw [qd_1 hb, qd_1 ht, show (-1 : Int32) = nI 4294967295 from by decide, qd_xor, qd_and, qd_or]
  rfl
theorem qd_nx_lt {x b t : Nat} (hx : x < 2048) (ht : t < 11) : qd_nx x b t < 2048 :=
  Nat.or_lt_two_pow (n := 11) (Nat.lt_of_le_of_lt Nat.and_le_left hx) (Nat.pow_lt_pow_right (by omega) ht)
/-- how many of the k bits from b on are set -/
def qd_bw (x b : Nat) : Nat → Nat
  | 0 => 0
  | k + 1 => qd_bw x b k + qd_b x (b + k)
theorem qd_bw_le (x b : Nat) : ∀ k, qd_bw x b k ≤ k
  | 0 => Nat.le_refl 0
  | k + 1 => by
    have h1 := qd_bw_le x b k
    have h2 := qd_b_lt x (b + k)
    show qd_bw x b k + qd_b x (b + k) ≤ k + 1
    omega
/-! what a rim's removal does to a weight h -/
/-- what mark b of the set x gives when it moves down by r -/
def qd_tm (h : Nat → Int32) (x r b : Nat) : Int32 :=
  if qd_b x b = 0 then 0 else if qd_b x (b - r) = 0 then (if qd_bw x (b - r + 1) (b - (b - r + 1)) % 2 = 0 then h (qd_nx x b (b - r)) else - h (qd_nx x b (b - r))) else 0
/-- all marks of the set x -/
def qd_L (h : Nat → Int32) (r x : Nat) : Int32 := qd_S (fun k => qd_tm h x r (r + k)) (11 - r)
/-- how often, signs counted, nothing is left of x when the rims of the list are taken away -/
def qd_g : List Nat → Nat → Int32
  | [] => fun x => if x = 15 then 1 else 0
  | r :: l => fun x => qd_L (qd_g l) r x
/-! partitions by their code j -/
def qd_p (j i : Nat) : Nat := j / 2 ^ (3 * i) % 8
theorem qd_p_lt (j i : Nat) : qd_p j i < 8 := Nat.mod_lt _ (by decide)
def qd_ps (j : Nat) : Nat → Nat
  | 0 => 0
  | i + 1 => qd_ps j i + qd_p j i
theorem qd_ps_le (j : Nat) : ∀ i, qd_ps j i ≤ 7 * i
  | 0 => Nat.le_refl 0
  | i + 1 => by
    have h1 := qd_ps_le j i
    have h2 := qd_p_lt j i
    show qd_ps j i + qd_p j i ≤ 7 * (i + 1)
    omega
/-- the number that the code is a partition of; 0: it is none -/
def qd_zN (j : Nat) : Nat := if qd_p j 1 ≤ qd_p j 0 ∧ qd_p j 2 ≤ qd_p j 1 ∧ qd_p j 3 ≤ qd_p j 2 ∧ qd_ps j 4 ≤ 7 then qd_ps j 4 else 0
theorem qd_zN_le (j : Nat) : qd_zN j ≤ 7 := by
  unfold qd_zN
  by_cases h : qd_p j 1 ≤ qd_p j 0 ∧ qd_p j 2 ≤ qd_p j 1 ∧ qd_p j 3 ≤ qd_p j 2 ∧ qd_ps j 4 ≤ 7
  · rw [if_pos h]
    exact h.2.2.2
  · rw [if_neg h]
    omega
def qd_sz (s : Int32) : Nat := if s < 0 ∨ nI 4096 ≤ s then 0 else qd_zN s.toNatClampNeg
theorem qd_sz_le (s : Int32) : qd_sz s ≤ 7 := by
  unfold qd_sz
  by_cases h : s < 0 ∨ nI 4096 ≤ s
  · rw [if_pos h]
    omega
  · rw [if_neg h]
    exact qd_zN_le _
theorem qd_sz_lo {s : Int32} (h : s < 0) : qd_sz s = 0 := if_pos (Or.inl h)
theorem qd_sz_hi {s : Int32} (h : nI 4096 ≤ s) : qd_sz s = 0 := if_pos (Or.inr h)
theorem qd_sz_nI {j : Nat} (h : j < 4096) : qd_sz (nI j) = qd_zN j := by
  unfold qd_sz
  rw [if_neg (fun z => z.elim (nI_pos (by omega)) (nI_ge h (by omega))), nI_clamp (by omega)]
theorem qd_sz_0 : qd_sz 0 = 0 := by
  have h := qd_sz_nI (j := 0) (by omega)
  rw [nI_0] at h
  rw [h]
  decide
/-- a code that is a partition is a number below 4096 -/
theorem qd_sz_of {s : Int32} (h : qd_sz s ≠ 0) : ∃ j, j < 4096 ∧ s = nI j ∧ qd_sz s = qd_zN j := by
  rcases pk_ix s (n := 4096) (by omega) with z | z | ⟨j, hj, rfl⟩
  · exact absurd (qd_sz_lo z) h
  · exact absurd (qd_sz_hi z) h
  · exact ⟨j, hj, rfl, qd_sz_nI hj⟩
/-- the parts that aren't 0, among the first i -/
def qd_pl (j : Nat) : Nat → List Nat
  | 0 => []
  | i + 1 => if qd_p j i = 0 then qd_pl j i else qd_pl j i ++ [qd_p j i]
theorem qd_pl_z {j i : Nat} (h : qd_p j i = 0) : qd_pl j (i + 1) = qd_pl j i := if_pos h
theorem qd_pl_s {j i : Nat} (h : qd_p j i ≠ 0) : qd_pl j (i + 1) = qd_pl j i ++ [qd_p j i] := if_neg h
theorem qd_pl_len (j : Nat) : ∀ i, (qd_pl j i).length ≤ i
  | 0 => Nat.le_refl 0
  | i + 1 => by
    have h1 := qd_pl_len j i
    by_cases h : qd_p j i = 0
    · rw [qd_pl_z h]
      omega
    · rw [qd_pl_s h, List.length_append]
      exact Nat.succ_le_succ h1
theorem qd_pl_in (j : Nat) : ∀ i r, r ∈ qd_pl j i → r ≤ 7
  | 0, r, h => absurd h (List.not_mem_nil)
  | i + 1, r, h => by
    by_cases e : qd_p j i = 0
    · rw [qd_pl_z e] at h
      exact qd_pl_in j i r h
    · rw [qd_pl_s e] at h
      rcases List.mem_append.mp h with z | z
      · exact qd_pl_in j i r z
      · have t := List.mem_singleton.mp z
        have t2 := qd_p_lt j i
        omega
/-- the set of marks of the first i parts -/
def qd_mk (j : Nat) : Nat → Nat
  | 0 => 0
  | i + 1 => qd_mk j i ||| 2 ^ (qd_p j i + 3 - i)
theorem qd_mk_lt (j : Nat) : ∀ i, qd_mk j i < 2048
  | 0 => by show 0 < 2048; decide
  | i + 1 => by
    have t := qd_p_lt j i
    exact Nat.or_lt_two_pow (n := 11) (qd_mk_lt j i) (Nat.pow_lt_pow_right (by omega) (by omega))
/-- the character's value, or BAD -/
def qd_v (s m : Int32) : Int32 := if qd_sz m = 0 then -1000000 else if qd_sz s = qd_sz m then qd_g (qd_pl m.toNatClampNeg 4) (qd_mk s.toNatClampNeg 4) else -1000000
theorem qd_v_bad {s m : Int32} (h : qd_sz m = 0 ∨ qd_sz s ≠ qd_sz m) : qd_v s m = -1000000 := by
  unfold qd_v
  by_cases e : qd_sz m = 0
  · rw [if_pos e]
  · rw [if_neg e, if_neg (h.elim (fun z => absurd z e) (fun z => z))]
theorem qd_v_ok {s m : Int32} (h : qd_sz m ≠ 0) (e : qd_sz s = qd_sz m) : qd_v s m = qd_g (qd_pl m.toNatClampNeg 4) (qd_mk s.toNatClampNeg 4) := by
  unfold qd_v
  rw [if_neg h, if_pos e]
/-! the two rows of the character table that the law knows -/
def qd_on (m : Int32) : Int32 := (if (m &&& 7) = 1 then 1 else 0) + (if ((m >>> ((3 : Int32) &&& 31)) &&& 7) = 1 then 1 else 0) + (if ((m >>> ((6 : Int32) &&& 31)) &&& 7) = 1 then 1 else 0) + (if (m >>> ((9 : Int32) &&& 31)) = 1 then 1 else 0)
theorem qd_tab : ∀ j, j < 4096 → qd_zN j ≠ 0 → qd_g (qd_pl j 4) (qd_mk (qd_zN j) 4) = 1 ∧ (1 < qd_zN j → qd_g (qd_pl j 4) (qd_mk (qd_zN j + 7) 4) = qd_on (nI j) - 1) := by decide +kernel
end
section
/-! the methods of CharacterDesk, one lemma each -/
theorem qd_by : ∀ n, n < 8 → (nI n).toInt8.toInt32 = nI n := by decide +kernel
theorem qd_pv {j i : Nat} (hj : j < 4096) (hi : i < 4) : ((nI j >>> ((3 * nI i) &&& 31)) &&& 7).toInt8.toInt32 = nI (qd_p j i) := by
  have h := Nat.div_le_self j (2 ^ (3 * i))
  have e : (3 : Int32) * nI i = nI (3 * i) := pk_mul 3 i
  rw [e, pk_shrN (by omega) _ (3 * i) (qd_sl _ (by omega)), pk_andN (by omega) 3 (by decide)]
  exact qd_by _ (Nat.mod_lt _ (by decide))
theorem qd_fill {f s : Nat → Int32} {i k : Nat} {x : Int32} (hk : k = i) (h : ∀ j, j < i → s j = f j) (hx : x = f i) : ∀ j, j < i + 1 → upd s k x j = f j := by
  intro j hj
  rw [hk]
  by_cases e : j = i
  · rw [e, pk_us, hx]
  · rw [pk_un e]
    exact h j (by omega)
/-- the loop of read -/
theorem qd_read17 {post : Int32 → St2 → Prop} {c rc : Int32} {a1 a2 a3 a4 : Nat → Int32} {j : Nat} (hj : j < 4096)
    (H : ∀ a, (qd_zN j ≠ 0 → ∀ i, i < 4 → a i = nI (qd_p j i)) → post (nI (qd_zN j)) (c, rc, a, a2, a3, a4)) :
    ∃ n, wX_read_17 post (nI j) c rc n 0 0 a1 a2 a3 a4 := by
  refine pk_loop (fun n i s => wX_read_17 post (nI j) c rc n s.1 (nI i) s.2 a2 a3 a4)
    (fun i (s : Int32 × (Nat → Int32)) => s.1 = nI (qd_ps j i) ∧ (∀ k, k < i → s.2 k = nI (qd_p j k)) ∧ (∀ k, k + 1 < i → qd_p j (k + 1) ≤ qd_p j k)) 4 0 (0, a1) (by omega) ⟨rfl, fun k hk => absurd hk (by omega), fun k hk => absurd hk (by omega)⟩ ?_ ?_
  · intro n s h
    obtain ⟨x, a⟩ := s
    obtain ⟨h1, h2, h3⟩ := h
    have h1' : x = nI (qd_ps j 4) := h1
    have hb := qd_ps_le j 4
    have d0 := h3 0 (by omega)
    have d1 := h3 1 (by omega)
    have d2 := h3 2 (by omega)
    show wX_read_17 post (nI j) c rc (n + 1) x (nI 4) a a2 a3 a4
    rw [h1']
    refine pk_le 4 4 (fun _ => ?_) (fun z => absurd z (by omega))
    refine pk_lt 7 (qd_ps j 4) (fun z => ?_) (fun z => ?_)
    · have e : qd_zN j = 0 := if_neg (fun t => by have := t.2.2.2; omega)
      have t := H a (fun z => absurd e z)
      rw [e] at t
      exact t
    · have e : qd_zN j = qd_ps j 4 := if_pos ⟨d0, d1, d2, z⟩
      have t := H a (fun _ => h2)
      rw [e] at t
      exact t
  · intro n i s hi h hw
    obtain ⟨x, a⟩ := s
    obtain ⟨h1, h2, h3⟩ := h
    have h1' : x = nI (qd_ps j i) := h1
    have hb := qd_ps_le j i
    have hp := qd_p_lt j i
    have F : ∀ k, k < i + 1 → upd a i (nI (qd_p j i)) k = nI (qd_p j k) := qd_fill (f := fun k => nI (qd_p j k)) rfl h2 rfl
    show wX_read_17 post (nI j) c rc (n + 1) x (nI i) a a2 a3 a4
    rw [h1']
    refine pk_le 4 i (fun z => absurd z (by omega)) (fun _ => ⟨pk_in i 4 hi, nm_r (by rw [nI_clamp (by omega), qd_pv hj hi]) ⟨pk_in i 4 hi, nm_r (e' := nI (qd_ps j (i + 1))) (by rw [nI_clamp (by omega), F i (by omega), nI_add]; rfl) ?_⟩⟩)
    refine pk_le i 0 (fun z => nm_r (nI_1 i) (hw (_, _) ⟨rfl, F, fun k hk => absurd hk (by omega)⟩)) (fun z => ?_)
    have e1 : nI i - 1 = nI (i - 1) := pk_sub (b := 1) (by omega)
    rw [e1, nI_clamp (show i < 2 ^ 31 by omega), nI_clamp (show i - 1 < 2 ^ 31 by omega), F i (by omega), F (i - 1) (by omega)]
    have hq := qd_p_lt j (i - 1)
    refine ⟨pk_in i 4 hi, pk_in (i - 1) 4 (by omega), pk_le (qd_p j i) (qd_p j (i - 1)) (fun g => nm_r (nI_1 i) (hw (_, _) ⟨rfl, F, fun k hk => ?_⟩)) (fun g => ?_)⟩
    · by_cases e : k + 1 = i
      · have e2 : k = i - 1 := by omega
        rw [e, e2]
        exact g
      · exact h3 k (by omega)
    · have e : qd_zN j = 0 := by
        refine if_neg (fun t => ?_)
        obtain ⟨t0, t1, t2, _⟩ := t
        rcases (by omega : i = 1 ∨ i = 2 ∨ i = 3) with rfl | rfl | rfl
        · exact absurd t0 (Nat.not_le.mpr g)
        · exact absurd t1 (Nat.not_le.mpr g)
        · exact absurd t2 (Nat.not_le.mpr g)
      have t := H (upd a i (nI (qd_p j i))) (fun z => absurd e z)
      rw [e] at t
      exact t
theorem qd_read {post : Int32 → St2 → Prop} {c rc : Int32} {a1 a2 a3 a4 : Nat → Int32} {s : Int32}
    (H : ∀ a, (qd_sz s ≠ 0 → ∀ i, i < 4 → a i = nI (qd_p s.toNatClampNeg i)) → post (nI (qd_sz s)) (c, rc, a, a2, a3, a4)) :
    wpX_read post (c, rc, a1, a2, a3, a4) s := by
  rcases pk_ix s (n := 4096) (by omega) with h | h | ⟨j, hj, rfl⟩
  · have t := H a1 (fun z => absurd (qd_sz_lo h) z)
    rw [qd_sz_lo h] at t
    exact br_t h t
  · have t := H a1 (fun z => absurd (qd_sz_hi h) z)
    rw [qd_sz_hi h] at t
    have h' := Int32.le_iff_toInt_le.mp h
    have e : (nI 4096).toInt = 4096 := by decide
    refine br_f (fun z => ?_) (br_f (fun z => ?_) t)
    · have z' := Int32.lt_iff_toInt_lt.mp z
      have e0 : (0 : Int32).toInt = 0 := by decide
      omega
    · have z' := Int32.le_iff_toInt_le.mp z
      have e0 : (4095 : Int32).toInt = 4095 := by decide
      omega
  · rw [qd_sz_nI hj, nI_clamp (by omega)] at H
    exact br_f (nI_pos (by omega)) (br_t (nI_le (b := 4095) (by omega) (by omega)) (qd_read17 hj H))
theorem qd_want {post : St2 → Prop} {c rc : Int32} {a1 a2 a3 a4 : Nat → Int32} {j : Nat} (h1 : ∀ i, i < 4 → a1 i = nI (qd_p j i))
    (H : ∀ a, (∀ k, k < (qd_pl j 4).length → a k = nI ((qd_pl j 4).getD k 0)) → post (c, nI (qd_pl j 4).length, a1, a, a3, a4)) :
    wpX_wantParts post (c, rc, a1, a2, a3, a4) := by
  show ∃ n, wX_wantParts_7 post c n 0 0 a1 a2 a3 a4
  refine pk_loop (fun n i s => wX_wantParts_7 post c n (nI i) s.1 a1 s.2 a3 a4)
    (fun i (s : Int32 × (Nat → Int32)) => s.1 = nI (qd_pl j i).length ∧ ∀ k, k < (qd_pl j i).length → s.2 k = nI ((qd_pl j i).getD k 0)) 4 0 (0, a2) (by omega) ⟨rfl, fun k hk => absurd hk (by show ¬ k < 0; omega)⟩ ?_ ?_
  · intro n s h
    obtain ⟨x, a⟩ := s
    obtain ⟨e1, e2⟩ := h
    have e1' : x = nI (qd_pl j 4).length := e1
    show wX_wantParts_7 post c (n + 1) (nI 4) x a1 a a3 a4
    rw [e1']
    exact pk_le 4 4 (fun _ => H a e2) (fun z => absurd z (by omega))
  · intro n i s hi h hw
    obtain ⟨x, a⟩ := s
    obtain ⟨e1, e2⟩ := h
    have e1' : x = nI (qd_pl j i).length := e1
    have hl := qd_pl_len j i
    have hp := qd_p_lt j i
    show wX_wantParts_7 post c (n + 1) (nI i) x a1 a a3 a4
    rw [e1']
    refine pk_le 4 i (fun z => absurd z (by omega)) (fun _ => ⟨pk_in i 4 hi, ?_⟩)
    rw [nI_clamp (show i < 2 ^ 31 by omega), h1 i hi]
    refine pk_le (qd_p j i) 0 (fun z => nm_r (nI_1 i) ?_) (fun z => ⟨pk_in i 4 hi, pk_in (qd_pl j i).length 8 (by omega), nm_e (nm_r (nI_1 _) (nm_r (nI_1 i) ?_))⟩)
    · have t := hw (nI (qd_pl j i).length, a)
      rw [qd_pl_z (by omega)] at t
      exact t ⟨rfl, e2⟩
    · have t := hw (nI ((qd_pl j i).length + 1), upd a (nI (qd_pl j i).length).toNatClampNeg (vp_nar .byte (nI (qd_p j i))))
      rw [qd_pl_s (by omega), List.length_append] at t
      refine t ⟨rfl, fun k hk => ?_⟩
      have hk' : k < (qd_pl j i).length + 1 := hk
      show upd a (nI (qd_pl j i).length).toNatClampNeg (vp_nar .byte (nI (qd_p j i))) k = _
      rw [nI_clamp (by omega), vp_nar_byte, qd_by _ hp]
      by_cases e : k = (qd_pl j i).length
      · rw [e, pk_us]
        simp
      · have e3 : a k = nI ((qd_pl j i).getD k 0) := e2 k (by omega)
        rw [pk_un e, e3]
        have hk2 : k < (qd_pl j i).length := by omega
        simp [List.getElem?_append_left hk2]
theorem qd_marks {post : Int32 → Prop} {c rc : Int32} {a1 a2 a3 a4 : Nat → Int32} {j : Nat} (h1 : ∀ i, i < 4 → a1 i = nI (qd_p j i)) (H : post (nI (qd_mk j 4))) :
    wpX_marks post (c, rc, a1, a2, a3, a4) := by
  show ∃ n, wX_marks_4 post c rc a1 a2 a3 a4 n 0 0
  refine pk_loop (fun n i s => wX_marks_4 post c rc a1 a2 a3 a4 n s (nI i)) (fun i s => s = nI (qd_mk j i)) 4 0 0 (by omega) rfl ?_ ?_
  · intro n s h
    rw [h]
    exact pk_le 4 4 (fun _ => H) (fun z => absurd z (by omega))
  · intro n i s hi h hw
    rw [h]
    have hp := qd_p_lt j i
    have e4 : nI (qd_p j i) + 4 - 1 - nI i = nI (qd_p j i + 3 - i) := by
      have t1 : nI (qd_p j i) + 4 = nI (qd_p j i + 4) := nI_add _ 4
      have t2 : nI (qd_p j i + 4) - 1 = nI (qd_p j i + 3) := nI_pred _
      rw [t1, t2, pk_sub (by omega)]
    refine pk_le 4 i (fun z => absurd z (by omega)) (fun _ => ⟨pk_in i 4 hi, nm_r (e' := nI (qd_mk j (i + 1))) ?_ (nm_r (nI_1 i) (hw _ rfl))⟩)
    rw [nI_clamp (by omega), h1 i hi, e4, qd_1 (by omega), qd_or]
    rfl
theorem qd_between {post : Int32 → Prop} {x lo hi : Nat} (hx : x < 2048) (hl : lo < hi) (hh : hi ≤ 11) (H : post (nI (qd_bw x (lo + 1) (hi - (lo + 1))))) :
    wpX_between post () (nI x) (nI lo) (nI hi) := by
  refine nm_r (nI_1 lo) ?_
  refine pk_loop (fun n i s => wX_between_7 post (nI x) (nI hi) n s (nI i)) (fun i s => lo + 1 ≤ i ∧ s = nI (qd_bw x (lo + 1) (i - (lo + 1)))) hi (lo + 1) 0 (by omega) ⟨Nat.le_refl _, by rw [Nat.sub_self]; rfl⟩ ?_ ?_
  · intro n s h
    rw [h.2]
    exact pk_le hi hi (fun _ => H) (fun z => absurd z (by omega))
  · intro n i s hi' h hw
    obtain ⟨h1, h2⟩ := h
    rw [h2]
    have e : i + 1 - (lo + 1) = (i - (lo + 1)) + 1 := by omega
    have e2 : lo + 1 + (i - (lo + 1)) = i := by omega
    refine pk_le hi i (fun z => absurd z (by omega)) (fun _ => nm_r (e' := nI (qd_bw x (lo + 1) (i + 1 - (lo + 1)))) ?_ (nm_r (nI_1 i) (hw _ ⟨by omega, rfl⟩)))
    rw [qd_bit hx (by omega), nI_add, e]
    show _ = nI (qd_bw x (lo + 1) (i - (lo + 1)) + qd_b x (lo + 1 + (i - (lo + 1))))
    rw [e2]
end
section
/-! move and strip: the sum of now, weighed, stays -/
theorem qd_r0 (t q : Int32) : t = t + q * 0 := by grind
theorem qd_ra (t q w s : Int32) : t + q * s + q * w = t + q * (s + w) := by grind
theorem qd_rn (q w : Int32) : -q * w = q * -w := by grind
theorem qd_rz (t w : Int32) : t = t + 0 * w := by grind
theorem qd_move {post : St2 → Prop} {c rc : Int32} {a1 a2 a3 a4 : Nat → Int32} {x r : Nat} {p1 : Int32} (h : Nat → Int32) (hx : x < 2048) (hr : r ≤ 7) (hp : p1 = nI r)
    (H : ∀ b, qd_S (fun y => b y * h y) 2048 = qd_S (fun y => a4 y * h y) 2048 + a3 x * qd_L h r x → post (c, rc, a1, a2, a3, b)) :
    wpX_move post (c, rc, a1, a2, a3, a4) (nI x) p1 := by
  subst hp
  show ∃ n, wX_move_2 post (nI x) (nI r) c rc n (nI r) a1 a2 a3 a4
  refine pk_loop (fun n i s => wX_move_2 post (nI x) (nI r) c rc n (nI i) a1 a2 a3 s)
    (fun i s => r ≤ i ∧ qd_S (fun y => s y * h y) 2048 = qd_S (fun y => a4 y * h y) 2048 + a3 x * qd_S (fun k => qd_tm h x r (r + k)) (i - r)) 11 r a4 (by omega) ⟨Nat.le_refl _, by rw [Nat.sub_self]; exact qd_r0 _ _⟩ ?_ ?_
  · intro n s h'
    exact pk_le 11 11 (fun _ => H s h'.2) (fun z => absurd z (by omega))
  · intro n i s hi h' hw
    obtain ⟨k1, k2⟩ := h'
    have e0 : i + 1 - r = (i - r) + 1 := by omega
    have e1 : r + (i - r) = i := by omega
    have go : ∀ b, qd_S (fun y => b y * h y) 2048 = qd_S (fun y => s y * h y) 2048 + a3 x * qd_tm h x r i → wX_move_2 post (nI x) (nI r) c rc n (nI (i + 1)) a1 a2 a3 b := by
      intro b hb
      refine hw b ⟨by omega, ?_⟩
      rw [hb, k2, e0]
      show _ = _ + a3 x * (qd_S (fun k => qd_tm h x r (r + k)) (i - r) + qd_tm h x r (r + (i - r)))
      rw [e1]
      exact qd_ra _ _ _ _
    have hb1 := qd_b_lt x i
    have hb2 := qd_b_lt x (i - r)
    show wX_move_2 post (nI x) (nI r) c rc (n + 1) (nI i) a1 a2 a3 s
    refine pk_le 11 i (fun z => absurd z (by omega)) (fun _ => nm_r (pk_sub k1) ?_)
    rw [qd_bit hx (show i < 32 by omega), qd_bit hx (show i - r < 32 by omega)]
    refine pk_eq (qd_b x i) 0 (fun z => nm_r (nI_1 i) (go s ?_)) (fun z => pk_eq (qd_b x (i - r)) 0 (fun w => ?_) (fun w => nm_r (nI_1 i) (go s ?_)))
    · rw [show qd_tm h x r i = 0 from if_pos z]
      exact qd_r0 _ _
    · have hr0 : 0 < r := by
        rcases Nat.eq_zero_or_pos r with t | t
        · rw [t, Nat.sub_zero] at w
          exact absurd w z
        · exact t
      refine qd_between hx (by omega) (by omega) ?_
      have hn := qd_nx_lt (b := i) hx (show i - r < 11 by omega)
      have hw2 := qd_bw_le x (i - r + 1) (i - (i - r + 1))
      refine nm_r (qd_nxI (by omega) (by omega)) ⟨pk_in _ 2048 hn, ?_⟩
      rw [nI_clamp (show x < 2 ^ 31 by omega), nI_clamp (show qd_nx x i (i - r) < 2 ^ 31 by omega), pk_andN (show qd_bw x (i - r + 1) (i - (i - r + 1)) < 2 ^ 32 by omega) 1 (by decide)]
      have hm2 : qd_bw x (i - r + 1) (i - (i - r + 1)) % 2 < 2 := Nat.mod_lt _ (by decide)
      refine pk_eq (qd_bw x (i - r + 1) (i - (i - r + 1)) % 2) 0 (fun g => ⟨pk_in x 2048 hx, pk_in _ 2048 hn, nm_e (nm_r (nI_1 i) (go _ ?_))⟩) (fun g => ⟨pk_in x 2048 hx, pk_in _ 2048 hn, nm_e (nm_r (nI_1 i) (go _ ?_))⟩)
      · have t : qd_tm h x r i = h (qd_nx x i (i - r)) := by
          unfold qd_tm
          rw [if_neg z, if_pos w, if_pos g]
        rw [t]
        exact qd_S_upd s h _ (a3 x) 2048 hn
      · have t : qd_tm h x r i = - h (qd_nx x i (i - r)) := by
          unfold qd_tm
          rw [if_neg z, if_pos w, if_neg g]
        rw [t, ← qd_rn]
        exact qd_S_upd s h _ (-(a3 x)) 2048 hn
    · have t : qd_tm h x r i = 0 := by
        unfold qd_tm
        rw [if_neg z, if_neg w]
      rw [t]
      exact qd_r0 _ _
theorem qd_98 {post : Int32 → St2 → Prop} {J : Int32 → Int32 → Int32 → (Nat → Int32) → (Nat → Int32) → (Nat → Int32) → (Nat → Int32) → Prop} {c rc : Int32} {a1 a2 a3 a4 : Nat → Int32} {k : Nat}
    (H : ∀ b, (∀ y, y < 2048 → b y = a4 y) → J (nI (k + 1)) c rc a1 a2 b a4) : ∃ n, wX_strip_98 post J (nI k) c rc n 0 a1 a2 a3 a4 := by
  refine pk_loop (fun n i s => wX_strip_98 post J (nI k) c rc n (nI i) a1 a2 s a4) (fun i s => ∀ y, y < i → s y = a4 y) 2048 0 a3 (by omega) (fun y hy => absurd hy (by omega)) ?_ ?_
  · intro n s h
    exact pk_le 2048 2048 (fun _ => nm_r (nI_1 k) (H s h)) (fun z => absurd z (by omega))
  · intro n i s hi h hw
    exact pk_le 2048 i (fun z => absurd z (by omega)) (fun _ => ⟨pk_in i 2048 hi, pk_in i 2048 hi, nm_e (nm_r (nI_1 i) (hw _ (qd_fill (nI_clamp (by omega)) h (by rw [nI_clamp (by omega)]))))⟩)
theorem qd_63 {post : Int32 → St2 → Prop} {J : Int32 → Int32 → Int32 → (Nat → Int32) → (Nat → Int32) → (Nat → Int32) → (Nat → Int32) → Prop} {c rc : Int32} {a1 a2 a3 a4 : Nat → Int32} {k r : Nat}
    (h : Nat → Int32) (hk : k < 8) (ha : a2 k = nI r) (hr : r ≤ 7) (h0 : qd_S (fun y => a4 y * h y) 2048 = 0)
    (H : ∀ b3 b4, qd_S (fun y => b3 y * h y) 2048 = qd_S (fun y => a3 y * qd_L h r y) 2048 → J (nI (k + 1)) c rc a1 a2 b3 b4) :
    ∃ n, wX_strip_63 post J (nI k) n 0 c rc a1 a2 a3 a4 := by
  refine pk_loop (fun n i s => wX_strip_63 post J (nI k) n (nI i) c rc a1 a2 a3 s) (fun i s => qd_S (fun y => s y * h y) 2048 = qd_S (fun y => a3 y * qd_L h r y) i) 2048 0 a4 (by omega) h0 ?_ ?_
  · intro n s hs
    exact pk_le 2048 2048 (fun _ => qd_98 (fun b hb => H b s (by rw [← hs]; exact qd_S_ext 2048 (fun y hy => by rw [hb y hy])))) (fun z => absurd z (by omega))
  · intro n i s hi hs hw
    show wX_strip_63 post J (nI k) (n + 1) (nI i) c rc a1 a2 a3 s
    refine pk_le 2048 i (fun z => absurd z (by omega)) (fun _ => ⟨pk_in i 2048 hi, ?_⟩)
    rw [nI_clamp (show i < 2 ^ 31 by omega)]
    refine br_c (fun z => nm_r (nI_1 i) (hw s ?_)) (fun z => ⟨pk_in k 8 hk, qd_move h hi hr (by rw [nI_clamp (by omega), ha]) (fun b hb => nm_r (nI_1 i) (hw b ?_))⟩)
    · show _ = qd_S (fun y => a3 y * qd_L h r y) i + a3 i * qd_L h r i
      rw [z, hs]
      exact qd_rz _ _
    · show _ = qd_S (fun y => a3 y * qd_L h r y) i + a3 i * qd_L h r i
      rw [hb, hs]
theorem qd_41 {post : Int32 → St2 → Prop} {J : Int32 → Int32 → Int32 → (Nat → Int32) → (Nat → Int32) → (Nat → Int32) → (Nat → Int32) → Prop} {c rc : Int32} {a1 a2 a3 a4 : Nat → Int32} {k r : Nat}
    (h : Nat → Int32) (hk : k < 8) (ha : a2 k = nI r) (hr : r ≤ 7)
    (H : ∀ b3 b4, qd_S (fun y => b3 y * h y) 2048 = qd_S (fun y => a3 y * qd_L h r y) 2048 → J (nI (k + 1)) c rc a1 a2 b3 b4) :
    ∃ n, wX_strip_41 post J (nI k) c rc n 0 a1 a2 a3 a4 := by
  refine pk_loop (fun n i s => wX_strip_41 post J (nI k) c rc n (nI i) a1 a2 a3 s) (fun i s => ∀ y, y < i → s y = 0) 2048 0 a4 (by omega) (fun y hy => absurd hy (by omega)) ?_ ?_
  · intro n s hs
    have h0 : qd_S (fun y => s y * h y) 2048 = 0 := by
      refine qd_S_zero 2048 (fun y hy => ?_)
      show s y * h y = 0
      rw [hs y hy]
      exact Int32.zero_mul
    exact pk_le 2048 2048 (fun _ => qd_63 h hk ha hr h0 H) (fun z => absurd z (by omega))
  · intro n i s hi hs hw
    exact pk_le 2048 i (fun z => absurd z (by omega)) (fun _ => ⟨pk_in i 2048 hi, nm_e (nm_r (nI_1 i) (hw _ (qd_fill (f := fun _ => 0) (nI_clamp (by omega)) hs rfl)))⟩)
theorem qd_31 {post : Int32 → St2 → Prop} {c : Int32} {a1 a2 a3 a4 : Nat → Int32} {l : List Nat} {v : Int32} (hl : l.length ≤ 8) (hr : ∀ r, r ∈ l → r ≤ 7) (h2 : ∀ k, k < l.length → a2 k = nI (l.getD k 0))
    (h0 : qd_S (fun y => a3 y * qd_g l y) 2048 = v) (H : ∀ b3 b4, post v (c, nI l.length, a1, a2, b3, b4)) :
    ∃ n, wX_strip_31 post n 0 c (nI l.length) a1 a2 a3 a4 := by
  refine pk_loop (fun n i s => wX_strip_31 post n (nI i) c (nI l.length) a1 a2 s.1 s.2) (fun i (s : (Nat → Int32) × (Nat → Int32)) => qd_S (fun y => s.1 y * qd_g (l.drop i) y) 2048 = v) l.length 0 (a3, a4) (by omega) h0 ?_ ?_
  · intro n s hs
    obtain ⟨b3, b4⟩ := s
    have hs' : qd_S (fun y => b3 y * qd_g (l.drop l.length) y) 2048 = v := hs
    rw [List.drop_length] at hs'
    have e : b3 15 = v := by
      rw [← hs', qd_S_one (k := 15) 2048 (by omega) (fun j _ hj => ?_)]
      · show b3 15 = b3 15 * 1
        exact (Int32.mul_one _).symm
      · show b3 j * (if j = 15 then 1 else 0) = 0
        rw [if_neg hj]
        exact Int32.mul_zero
    refine pk_le l.length l.length (fun _ => ?_) (fun z => absurd z (by omega))
    have t := H b3 b4
    rw [← e] at t
    exact t
  · intro n i s hi hs hw
    obtain ⟨b3, b4⟩ := s
    have hs' : qd_S (fun y => b3 y * qd_g (l.drop i) y) 2048 = v := hs
    have hd : l.drop i = l.getD i 0 :: l.drop (i + 1) := by
      rw [List.drop_eq_getElem_cons hi]
      simp [hi]
    have hm : l.getD i 0 ∈ l := List.mem_of_mem_drop (i := i) (by rw [hd]; exact List.mem_cons_self)
    rw [hd] at hs'
    refine pk_le l.length i (fun z => absurd z (by omega)) (fun _ => qd_41 (qd_g (l.drop (i + 1))) (by omega) (h2 i hi) (hr _ hm) (fun c3 c4 hc => hw (c3, c4) ?_))
    show qd_S (fun y => c3 y * qd_g (l.drop (i + 1)) y) 2048 = v
    rw [hc]
    exact hs'
theorem qd_strip {post : Int32 → St2 → Prop} {c : Int32} {a1 a2 a3 a4 : Nat → Int32} {l : List Nat} {x : Nat} (hx : x < 2048) (hl : l.length ≤ 8) (hr : ∀ r, r ∈ l → r ≤ 7) (h2 : ∀ k, k < l.length → a2 k = nI (l.getD k 0))
    (H : ∀ b3 b4, post (qd_g l x) (c, nI l.length, a1, a2, b3, b4)) : wpX_strip post (c, nI l.length, a1, a2, a3, a4) (nI x) := by
  show ∃ n, wX_strip_2 post (nI x) c (nI l.length) n 0 a1 a2 a3 a4
  refine pk_loop (fun n i s => wX_strip_2 post (nI x) c (nI l.length) n (nI i) a1 a2 s a4) (fun i s => ∀ y, y < i → s y = 0) 2048 0 a3 (by omega) (fun y hy => absurd hy (by omega)) ?_ ?_
  · intro n s hs
    have h0 : qd_S (fun y => upd s x 1 y * qd_g l y) 2048 = qd_g l x := by
      rw [qd_S_one (k := x) 2048 hx (fun j hj e => ?_)]
      · show upd s x 1 x * qd_g l x = qd_g l x
        rw [pk_us]
        exact Int32.one_mul _
      · show upd s x 1 j * qd_g l j = 0
        rw [pk_un e, hs j hj]
        exact Int32.zero_mul
    exact pk_le 2048 2048 (fun _ => ⟨pk_in x 2048 hx, nm_r (by rw [nI_clamp (by omega)]) (qd_31 (v := qd_g l x) hl hr h2 h0 H)⟩) (fun z => absurd z (by omega))
  · intro n i s hi hs hw
    exact pk_le 2048 i (fun z => absurd z (by omega)) (fun _ => ⟨pk_in i 2048 hi, nm_e (nm_r (nI_1 i) (hw _ (qd_fill (f := fun _ => 0) (nI_clamp (by omega)) hs rfl)))⟩)
/-! the methods that the law calls -/
theorem qd_char {post : Int32 → St2 → Prop} {c rc : Int32} {a1 a2 a3 a4 : Nat → Int32} {s m : Int32} (H : ∀ r b1 b2 b3 b4, post (qd_v s m) (c, r, b1, b2, b3, b4)) :
    wpX_character post (c, rc, a1, a2, a3, a4) s m := by
  unfold wpX_character
  dsimp only
  refine qd_read (fun b1 g1 => ?_)
  have lm := qd_sz_le m
  have ls := qd_sz_le s
  by_cases hm : qd_sz m = 0
  · rw [qd_v_bad (Or.inl hm)] at H
    rw [hm]
    exact br_t rfl (H _ _ _ _ _)
  · refine br_f (nI_ne0 (by omega) (by omega)) ?_
    refine qd_want (g1 hm) (fun b2 g2 => ?_)
    refine qd_read (fun b3 g3 => ?_)
    refine pk_eq (qd_sz s) (qd_sz m) (fun e => ?_) (fun e => ?_)
    · refine qd_marks (g3 (by omega)) ?_
      refine qd_strip (qd_mk_lt _ 4) (Nat.le_trans (qd_pl_len _ 4) (by omega)) (qd_pl_in _ 4) g2 (fun d3 d4 => ?_)
      rw [qd_v_ok hm e] at H
      exact H _ _ _ _ _
    · rw [qd_v_bad (Or.inr e)] at H
      exact H _ _ _ _ _
theorem qd_at {post : Int32 → St2 → Prop} {c rc : Int32} {a1 a2 a3 a4 : Nat → Int32} {m : Int32} (H : ∀ r b1 b2 b3 b4, post (qd_v c m) (c, r, b1, b2, b3, b4)) :
    wpX_at post (c, rc, a1, a2, a3, a4) m := by
  refine br_c (fun z => ?_) (fun z => qd_char (fun r b1 b2 b3 b4 => H r b1 b2 b3 b4))
  have e : qd_v c m = -1000000 := by
    refine qd_v_bad ?_
    by_cases e : qd_sz m = 0
    · exact Or.inl e
    · refine Or.inr (fun t => e ?_)
      rw [← t, z]
      exact qd_sz_0
  rw [e] at H
  exact H _ _ _ _ _
/-- what choose answers -/
def qd_d (s : Int32) : Int32 := if qd_sz s = 0 then -1000000 else nI (qd_sz s)
theorem qd_choose {post : Int32 → St2 → Prop} {c rc : Int32} {a1 a2 a3 a4 : Nat → Int32} {s : Int32} (H : ∀ b, post (qd_d s) (if qd_sz s = 0 then c else s, rc, b, a2, a3, a4)) :
    wpX_choose post (c, rc, a1, a2, a3, a4) s := by
  unfold wpX_choose
  dsimp only
  refine qd_read (fun b g => ?_)
  unfold qd_d at H
  have ls := qd_sz_le s
  by_cases h : qd_sz s = 0
  · rw [if_pos h, if_pos h] at H
    rw [h]
    exact br_t rfl (H b)
  · rw [if_neg h, if_neg h] at H
    exact br_f (nI_ne0 (by omega) (by omega)) (H b)
theorem qd_van {post : Int32 → St2 → Prop} {c rc : Int32} {a1 a2 a3 a4 : Nat → Int32} {s m : Int32} (H1 : qd_v s m = 0 → ∀ u, post 1 u) (H0 : ¬ qd_v s m = 0 → ∀ u, post 0 u) :
    wpX_vanishes post (c, rc, a1, a2, a3, a4) s m := by
  unfold wpX_vanishes
  dsimp only
  exact qd_char (fun r b1 b2 b3 b4 => br_c (fun z => H1 z _) (fun z => H0 z _))
end
section
/-! the law -/
theorem qd_size {post : Int32 → Prop} {s : Int32} (H : post (nI (qd_sz s))) : wpL_size post () s := by
  have Z : qd_sz s = 0 → ∀ a b c d, wL_size_70 post a b c d := by
    intro e a b c d
    rw [e] at H
    exact br_t rfl H
  rcases pk_ix s (n := 4096) (by omega) with h | h | ⟨j, hj, rfl⟩
  · have h' := Int32.lt_iff_toInt_lt.mp h
    exact nm_e (nm_e (nm_e (nm_e (br_t (Int32.le_iff_toInt_le.mpr (by omega)) (Z (qd_sz_lo h) _ _ _ _)))))
  · have h' := Int32.le_iff_toInt_le.mp h
    have e : (nI 4096).toInt = 4096 := by decide
    refine nm_e (nm_e (nm_e (nm_e (br_f (fun z => ?_) (br_t h (Z (qd_sz_hi h) _ _ _ _))))))
    have z' := Int32.le_iff_toInt_le.mp z
    have e0 : (0 : Int32).toInt = 0 := by decide
    omega
  · rw [qd_sz_nI hj] at H Z
    have d3 := Nat.div_le_self j (2 ^ 3)
    have d6 := Nat.div_le_self j (2 ^ 6)
    have E0 : nI j &&& 7 = nI (qd_p j 0) := by
      rw [pk_andN (by omega) 3 (by decide)]
      show nI (j % 8) = nI (j / 1 % 8)
      rw [Nat.div_one]
    have E1 : (nI j >>> ((3 : Int32) &&& 31)) &&& 7 = nI (qd_p j 1) := by
      rw [pk_shrN (by omega) _ 3 (by decide), pk_andN (by omega) 3 (by decide)]
      rfl
    have E2 : (nI j >>> ((6 : Int32) &&& 31)) &&& 7 = nI (qd_p j 2) := by
      rw [pk_shrN (by omega) _ 6 (by decide), pk_andN (by omega) 3 (by decide)]
      rfl
    have E3 : nI j >>> ((9 : Int32) &&& 31) = nI (qd_p j 3) := by
      rw [pk_shrN (by omega) _ 9 (by decide)]
      show nI (j / 512) = nI (j / 512 % 8)
      rw [Nat.mod_eq_of_lt (by omega)]
    have p0 := qd_p_lt j 0
    have p1 := qd_p_lt j 1
    have p2 := qd_p_lt j 2
    have p3 := qd_p_lt j 3
    have E4 : qd_ps j 4 = qd_p j 0 + qd_p j 1 + qd_p j 2 + qd_p j 3 := by
      show 0 + qd_p j 0 + qd_p j 1 + qd_p j 2 + qd_p j 3 = _
      rw [Nat.zero_add]
    have E5 : nI (qd_p j 0) + nI (qd_p j 1) + nI (qd_p j 2) + nI (qd_p j 3) = nI (qd_ps j 4) := by
      rw [nI_add, nI_add, nI_add, E4]
    refine nm_r E0 (nm_r E1 (nm_r E2 (nm_r E3 ?_)))
    rw [E5]
    refine pk_le j 0 (fun z => Z ?_ _ _ _ _) (fun z => pk_le 4096 j (fun z => absurd z (by omega)) (fun _ => pk_lt (qd_p j 0) (qd_p j 1) (fun z => Z ?_ _ _ _ _) (fun g0 => pk_lt (qd_p j 1) (qd_p j 2) (fun z => Z ?_ _ _ _ _) (fun g1 => pk_lt (qd_p j 2) (qd_p j 3) (fun z => Z ?_ _ _ _ _) (fun g2 => pk_lt 7 (qd_ps j 4) (fun z => Z ?_ _ _ _ _) (fun g3 => br_f (by decide) ?_))))))
    · rw [show j = 0 by omega]
      decide
    · exact if_neg (fun t => by have := t.1; omega)
    · exact if_neg (fun t => by have := t.2.1; omega)
    · exact if_neg (fun t => by have := t.2.2.1; omega)
    · exact if_neg (fun t => by have := t.2.2.2; omega)
    · have e : qd_zN j = qd_ps j 4 := if_pos ⟨g0, g1, g2, g3⟩
      rw [e] at H
      rw [E5]
      exact H
/-- the two known rows -/
theorem qd_row1 {x9 x2 : Int32} (h0 : qd_sz x2 ≠ 0) (h : qd_sz x2 = qd_sz x9) (hx : x9 = nI (qd_sz x9)) : qd_v x9 x2 = 1 := by
  obtain ⟨j, hj, e1, e2⟩ := qd_sz_of h0
  have l := qd_sz_le x9
  have e : x9.toNatClampNeg = qd_zN j := by
    rw [hx, nI_clamp (by omega), ← h, e2]
  rw [qd_v_ok h0 h.symm, e, e1, nI_clamp (by omega)]
  exact (qd_tab j hj (by omega)).1
theorem qd_row2 {x9 x2 : Int32} (h0 : qd_sz x2 ≠ 0) (h : qd_sz x2 = qd_sz x9) (hn : ¬ nI (qd_sz x9) ≤ 1) (hx : x9 = nI (qd_sz x9) - 1 + 8) : qd_v x9 x2 = qd_on x2 - 1 := by
  obtain ⟨j, hj, e1, e2⟩ := qd_sz_of h0
  have l := qd_sz_le x9
  have hn' : 1 < qd_sz x9 := by
    rcases Nat.lt_or_ge 1 (qd_sz x9) with z | z
    · exact z
    · exact absurd (nI_le (b := 1) z (by omega)) hn
  have t1 : nI (qd_sz x9) - 1 = nI (qd_sz x9 - 1) := pk_sub (b := 1) (by omega)
  have t2 : nI (qd_sz x9 - 1) + 8 = nI (qd_sz x9 - 1 + 8) := nI_add _ 8
  have e : x9.toNatClampNeg = qd_zN j + 7 := by
    rw [hx, t1, t2, nI_clamp (by omega), ← h, e2]
    omega
  rw [qd_v_ok h0 h.symm, e, e1, nI_clamp (by omega)]
  exact (qd_tab j hj (by omega)).2 (by omega)
theorem qd_154 {post : Int32 → St0 → Prop} (hp : post 1 ()) {mc ms kc ks : Nat} {x2 x9 x11 c rc : Int32} {a1 a2 a3 a4 : Nat → Int32} (hv : qd_v x9 x2 = -1000000) (hx : x11 = qd_v x9 x2) :
    wL_lawOf_154 post mc ms x2 x9 x11 kc ks c rc a1 a2 a3 a4 := by
  refine br_t (hx.trans hv) (qd_van (fun z => ?_) (fun _ u => br_t rfl hp))
  rw [hv] at z
  exact absurd z (by decide)
theorem qd_277 {post : Int32 → St0 → Prop} (hp : post 1 ()) {mc ms kc ks : Nat} {x2 x9 x11 z0 c rc : Int32} {a1 a2 a3 a4 : Nat → Int32} (hx : x11 = qd_v x9 x2) (hz : x11 = z0) :
    wL_lawOf_277 post mc ms x2 x9 x11 z0 kc ks c rc a1 a2 a3 a4 := by
  have e : z0 = qd_v x9 x2 := hz.symm.trans hx
  exact br_t hz (qd_van (fun z u => br_t (e.trans z) (br_t rfl hp)) (fun z u => br_f (fun g => z (e.symm.trans g)) (br_t rfl hp)))
theorem qd_236 {post : Int32 → St0 → Prop} (hp : post 1 ()) {mc ms kc ks : Nat} {x2 x9 x10 x11 z0 z1 c rc : Int32} {a1 a2 a3 a4 : Nat → Int32} (hx : x11 = qd_v x9 x2) (g1 : x9 = x10 → x11 = 1)
    (g2 : ¬ x10 ≤ 1 → x9 = x10 - 1 + 8 → x11 = z1 + z0 - 1) : wL_lawOf_236 post mc ms x2 x9 x10 x11 z0 z1 kc ks c rc a1 a2 a3 a4 :=
  nm_e (br_c (fun z => qd_277 hp hx (g1 z)) (fun _ => br_c (fun _ => qd_277 hp hx rfl) (fun y => br_c (fun w => qd_277 hp hx (g2 y w)) (fun _ => qd_277 hp hx rfl))))
theorem qd_222 {post : Int32 → St0 → Prop} (hp : post 1 ()) {mc ms kc ks : Nat} {x2 x9 x10 x11 z0 z1 c rc : Int32} {a1 a2 a3 a4 : Nat → Int32} (hx : x11 = qd_v x9 x2) (g1 : x9 = x10 → x11 = 1)
    (g2 : ¬ x10 ≤ 1 → x9 = x10 - 1 + 8 → x11 = z1 + z0 + (if (x2 >>> ((9 : Int32) &&& 31)) = 1 then 1 else 0) - 1) : wL_lawOf_222 post mc ms x2 x9 x10 x11 z0 z1 kc ks c rc a1 a2 a3 a4 := by
  refine br_c (fun z => qd_236 hp hx g1 ?_) (fun z => qd_236 hp hx g1 ?_)
  · rw [if_pos z] at g2
    exact g2
  · rw [if_neg z] at g2
    exact g2
theorem qd_205 {post : Int32 → St0 → Prop} (hp : post 1 ()) {mc ms kc ks : Nat} {x2 x9 x10 x11 z0 z1 c rc : Int32} {a1 a2 a3 a4 : Nat → Int32} (hx : x11 = qd_v x9 x2) (g1 : x9 = x10 → x11 = 1)
    (g2 : ¬ x10 ≤ 1 → x9 = x10 - 1 + 8 → x11 = z1 + z0 + (if ((x2 >>> ((6 : Int32) &&& 31)) &&& 7) = 1 then 1 else 0) + (if (x2 >>> ((9 : Int32) &&& 31)) = 1 then 1 else 0) - 1) : wL_lawOf_205 post mc ms x2 x9 x10 x11 z0 z1 kc ks c rc a1 a2 a3 a4 := by
  refine br_c (fun z => qd_222 hp hx g1 ?_) (fun z => qd_222 hp hx g1 ?_)
  · rw [if_pos z] at g2
    exact g2
  · rw [if_neg z] at g2
    exact g2
theorem qd_190 {post : Int32 → St0 → Prop} (hp : post 1 ()) {mc ms kc ks : Nat} {x2 x9 x10 x11 z0 c rc : Int32} {a1 a2 a3 a4 : Nat → Int32} (hx : x11 = qd_v x9 x2) (g1 : x9 = x10 → x11 = 1)
    (g2 : ¬ x10 ≤ 1 → x9 = x10 - 1 + 8 → x11 = z0 + (if ((x2 >>> ((3 : Int32) &&& 31)) &&& 7) = 1 then 1 else 0) + (if ((x2 >>> ((6 : Int32) &&& 31)) &&& 7) = 1 then 1 else 0) + (if (x2 >>> ((9 : Int32) &&& 31)) = 1 then 1 else 0) - 1) :
    wL_lawOf_190 post mc ms x2 x9 x10 x11 z0 kc ks c rc a1 a2 a3 a4 := by
  refine br_c (fun z => qd_205 hp hx g1 ?_) (fun z => qd_205 hp hx g1 ?_)
  · rw [if_pos z] at g2
    exact g2
  · rw [if_neg z] at g2
    exact g2
theorem qd_109 {post : Int32 → St0 → Prop} (hp : post 1 ()) {mc ms kc ks : Nat} {x2 x9 rc : Int32} {a1 a2 a3 a4 : Nat → Int32} :
    wL_lawOf_109 post mc ms x2 (nI (qd_sz x2)) x9 (nI (qd_sz x9)) kc ks x9 rc a1 a2 a3 a4 := by
  have l9 := qd_sz_le x9
  have l2 := qd_sz_le x2
  unfold wL_lawOf_109
  refine qd_at (fun r b1 b2 b3 b4 => ?_)
  refine br_t rfl ?_
  refine qd_char (fun r' d1 d2 d3 d4 => ?_)
  refine br_t rfl ?_
  refine pk_lt (qd_sz x9) 1 (fun z => qd_154 hp (qd_v_bad (by omega)) rfl) (fun z => pk_eq (qd_sz x2) (qd_sz x9) (fun e => ?_) (fun e => qd_154 hp (qd_v_bad (by omega)) rfl))
  have r1 : x9 = nI (qd_sz x9) → qd_v x9 x2 = 1 := qd_row1 (by omega) e
  have r2 : ¬ nI (qd_sz x9) ≤ 1 → x9 = nI (qd_sz x9) - 1 + 8 → qd_v x9 x2 = qd_on x2 - 1 := qd_row2 (by omega) e
  unfold qd_on at r2
  refine br_c (fun h7 => qd_190 hp rfl r1 ?_) (fun h7 => qd_190 hp rfl r1 ?_)
  · rw [if_pos h7] at r2
    exact r2
  · rw [if_neg h7] at r2
    exact r2
theorem qd_52 {post : Int32 → St0 → Prop} (hp : post 1 ()) {mc ms kc ks : Nat} {x0 x1 x2 rc : Int32} {a1 a2 a3 a4 : Nat → Int32} :
    wL_lawOf_52 post mc ms x0 x1 x2 (nI (qd_sz x0)) (nI (qd_sz x1)) (nI (qd_sz x2)) (qd_d x0) (qd_d x1) kc ks 0 rc a1 a2 a3 a4 := by
  have l0 := qd_sz_le x0
  have l1 := qd_sz_le x1
  unfold wL_lawOf_52
  refine qd_choose (fun b => br_t rfl (qd_choose (fun b' => br_t rfl ?_)))
  refine pk_le (qd_sz x1) 0 (fun z => ?_) (fun z => ?_)
  · rw [if_pos (show qd_sz x1 = 0 by omega)]
    refine pk_le (qd_sz x0) 0 (fun w => ?_) (fun w => ?_)
    · rw [if_pos (show qd_sz x0 = 0 by omega)]
      refine br_t (nI_le (b := 0) z (by decide)) ?_
      rw [show qd_sz x0 = qd_sz 0 by rw [qd_sz_0]; omega]
      exact qd_109 hp
    · rw [if_neg (show ¬ qd_sz x0 = 0 by omega)]
      exact br_t (nI_le (b := 0) z (by decide)) (qd_109 hp)
  · rw [if_neg (show ¬ qd_sz x1 = 0 by omega)]
    exact br_f (nI_nle z (by omega)) (qd_109 hp)
theorem qd_38 {post : Int32 → St0 → Prop} (hp : post 1 ()) {mc ms kc ks : Nat} {x0 x1 x2 rc : Int32} {a1 a2 a3 a4 : Nat → Int32} :
    wL_lawOf_38 post mc ms x0 x1 x2 (nI (qd_sz x0)) (nI (qd_sz x1)) (nI (qd_sz x2)) (qd_d x0) kc ks 0 rc a1 a2 a3 a4 := by
  have l1 := qd_sz_le x1
  have t : wL_lawOf_52 post mc ms x0 x1 x2 (nI (qd_sz x0)) (nI (qd_sz x1)) (nI (qd_sz x2)) (qd_d x0) (qd_d x1) kc ks 0 rc a1 a2 a3 a4 := qd_52 hp
  refine pk_le (qd_sz x1) 0 (fun z => ?_) (fun z => ?_)
  · rw [show qd_d x1 = -1000000 from if_pos (by omega)] at t
    exact t
  · rw [show qd_d x1 = nI (qd_sz x1) from if_neg (by omega)] at t
    exact t
theorem qd_lawOf {post : Int32 → St0 → Prop} (hp : post 1 ()) {x0 x1 x2 : Int32} : wpL_lawOf post 5 4114 () x0 x1 x2 := by
  have l0 := qd_sz_le x0
  have t : wL_lawOf_38 post 5 4114 x0 x1 x2 (nI (qd_sz x0)) (nI (qd_sz x1)) (nI (qd_sz x2)) (qd_d x0) (1 + 4) (6 + 4108) 0 0 (fun _ => 0) (fun _ => 0) (fun _ => 0) (fun _ => 0) := qd_38 hp
  unfold wpL_lawOf
  refine ⟨by omega, by omega, 4, 4108, by omega, by omega, ?_⟩
  unfold wpX_init
  dsimp only
  refine ⟨by omega, by omega, by omega, by omega, by omega, by omega, by omega, by omega, ?_⟩
  refine qd_size (qd_size (qd_size ?_))
  refine pk_le (qd_sz x0) 0 (fun z => ?_) (fun z => ?_)
  · rw [show qd_d x0 = -1000000 from if_pos (by omega)] at t
    exact t
  · rw [show qd_d x0 = nI (qd_sz x0) from if_neg (by omega)] at t
    exact t
theorem qd_cell {post : Int32 → Prop} {L : Nat} {xs : Nat → Int32} {p : Int32} (i : Nat) (hL : L ≤ 3) (hi : i < 3) (hp : p = nI i) (H : ∀ v, post v) : wpL_cellAt post L xs () p := by
  subst hp
  exact pk_le L i (fun _ => H _) (fun z => ⟨pk_in i L z, H _⟩)
theorem i_vc (xs : Nat → Int32) (L : Nat) (hL : L ≤ 3) : wpL_law (fun r => r = 1) L xs := by
  unfold wpL_law
  exact qd_cell 0 hL (by omega) rfl (fun x0 => qd_cell 1 hL (by omega) rfl (fun x1 => qd_cell 2 hL (by omega) rfl (fun x2 => ⟨5, 4114, by omega, by omega, qd_lawOf rfl⟩)))
end
