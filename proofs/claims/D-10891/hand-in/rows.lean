section
/-- the two bits of variable v in clause 0 -/
def qd_h (a1 : Nat → Int32) (v : Nat) : Int32 := ((a1 0).toUInt32 >>> ((2 * nI v).toUInt32 &&& Int32.toUInt32 31)).toInt32 &&& 3
/-- the low one of them -/
def qd_g (a1 : Nat → Int32) (v : Nat) : Int32 := ((a1 0).toUInt32 >>> ((2 * nI v).toUInt32 &&& Int32.toUInt32 31)).toInt32 &&& 1
/-- clause 0 has one literal: of variable L, so if that has the value s -/
def qd_C (a1 : Nat → Int32) (L : Nat) (s : Int32) : Prop := L < 8 ∧ (∀ v, v < 8 → v ≠ L → qd_h a1 v = 0) ∧ ((s = 1 ∧ qd_h a1 L = 1 ∧ ¬ qd_g a1 L = 0) ∨ (s = 0 ∧ qd_h a1 L = 2 ∧ qd_g a1 L = 0))
/-- all variables are MAKER's but w -/
def qd_M (mk : Int32) (w : Nat) : Prop := ∀ v, v < 8 → (((mk.toUInt32 >>> ((nI v).toUInt32 &&& Int32.toUInt32 31)).toInt32 &&& 1 = 0) ↔ v = w)
/-- what derive finds lost: lo the clause left out, x the value of L -/
def qd_lost (lo : Int32) (w L : Nat) (s x : Int32) : Prop := ¬ 0 = lo ∧ x ≠ s ∧ (0 ≤ x ∨ L = w)
/-- the value of variable j in position p of length k -/
def qd_v (p k j : Nat) : Int32 := if j < k then nI (p / 2 ^ (k - 1 - j) % 2) else -1
/-- how many of the n numbers from b on have f -/
def qd_c (f : Nat → Bool) (b : Nat) : Nat → Nat
  | 0 => 0
  | n + 1 => qd_c f b n + (if f (b + n) = true then 1 else 0)
theorem qd_c_t {f : Nat → Bool} {b : Nat} : ∀ n, (∀ j, j < n → f (b + j) = true) → qd_c f b n = n
  | 0, _ => rfl
  | n + 1, h => by
    show qd_c f b n + (if f (b + n) = true then 1 else 0) = n + 1
    rw [qd_c_t n (fun j hj => h j (by omega)), if_pos (h n (by omega))]
theorem qd_c_f {f : Nat → Bool} {b : Nat} : ∀ n, (∀ j, j < n → f (b + j) = false) → qd_c f b n = 0
  | 0, _ => rfl
  | n + 1, h => by
    show qd_c f b n + (if f (b + n) = true then 1 else 0) = 0
    rw [qd_c_f n (fun j hj => h j (by omega)), h n (by omega)]
    rfl
theorem qd_c_e {f g : Nat → Bool} {b : Nat} : ∀ n, (∀ j, j < n → f (b + j) = g (b + j)) → qd_c f b n = qd_c g b n
  | 0, _ => rfl
  | n + 1, h => by
    show qd_c f b n + (if f (b + n) = true then 1 else 0) = qd_c g b n + (if g (b + n) = true then 1 else 0)
    rw [qd_c_e n (fun j hj => h j (by omega)), h n (by omega)]
theorem qd_half : ∀ k, k < 9 → ∀ L, L < k → ∀ t, t < 2 → qd_c (fun p => decide (p / 2 ^ (k - 1 - L) % 2 = t)) (2 ^ k) (2 ^ k) = 2 ^ (k - 1) := by decide +kernel
/-! tables -/
theorem qd_C0 : ∀ l, l < 16 → ∀ v, v < 8 → (((((1 : Int32) <<< (nI l &&& 31)) &&& 65535).toUInt32 >>> ((2 * nI v).toUInt32 &&& Int32.toUInt32 31)).toInt32 &&& 3) = (if v = l / 2 then (if l % 2 = 0 then 1 else 2) else 0) := by decide +kernel
theorem qd_C1 : ∀ l, l < 16 → (((((1 : Int32) <<< (nI l &&& 31)) &&& 65535).toUInt32 >>> ((2 * nI (l / 2)).toUInt32 &&& Int32.toUInt32 31)).toInt32 &&& 1) = (if l % 2 = 0 then 1 else 0) := by decide +kernel
theorem qd_M0 : ∀ v, v < 8 → (((255 : Int32).toUInt32 >>> ((nI v).toUInt32 &&& Int32.toUInt32 31)).toInt32 &&& 1) = 1 := by decide +kernel
theorem qd_M1 : ∀ w, w < 8 → ∀ v, v < 8 → ((((255 : Int32) &&& (((1 : Int32) <<< (nI w &&& 31)) ^^^ (-1))).toUInt32 >>> ((nI v).toUInt32 &&& Int32.toUInt32 31)).toInt32 &&& 1) = (if v = w then 0 else 1) := by decide +kernel
theorem qd_M2 : ∀ w, w < 8 → ((255 : Int32) &&& (((1 : Int32) <<< (nI w &&& 31)) ^^^ (-1))) ^^^ ((1 : Int32) <<< (nI w &&& 31)) = 255 := by decide +kernel
theorem qd_M3 : ∀ w, w < 8 → (255 : Int32) ^^^ ((1 : Int32) <<< (nI w &&& 31)) = (255 : Int32) &&& (((1 : Int32) <<< (nI w &&& 31)) ^^^ (-1)) := by decide +kernel
theorem qd_su : ∀ m, m < 10 → (((nI m).toUInt32 &&& Int32.toUInt32 31).toBitVec % 32).toNat = m := by decide +kernel
theorem qd_s1 : ∀ k, k < 9 → (1 : Int32) <<< (nI k &&& 31) = nI (2 ^ k) := by decide +kernel
theorem qd_s2 : ∀ k, k < 9 → (2 : Int32) <<< (nI k &&& 31) = nI (2 ^ k + 2 ^ k) := by decide +kernel
theorem qd_s3 : ∀ k, k < 9 → 0 < k → ((1 : Int32) <<< (nI k &&& 31)) >>> ((1 : Int32) &&& 31) = nI (2 ^ (k - 1)) := by decide +kernel
theorem qd_l1 : ∀ l, l < 16 → nI l >>> ((1 : Int32) &&& 31) = nI (l / 2) := by decide +kernel
theorem qd_p8 : ∀ k, k < 9 → 2 ^ k ≤ 256 := by decide +kernel
theorem qd_C_of {l : Nat} (hl : l < 16) (f : Nat → Int32) : qd_C (upd f 0 (((1 : Int32) <<< (nI l &&& 31)) &&& 65535)) (l / 2) (if l % 2 = 0 then 1 else 0) := by
  have e : upd f 0 (((1 : Int32) <<< (nI l &&& 31)) &&& 65535) 0 = ((1 : Int32) <<< (nI l &&& 31)) &&& 65535 := pk_us
  refine ⟨by omega, fun v hv hn => ?_, ?_⟩
  · unfold qd_h
    rw [e, qd_C0 l hl v hv, if_neg hn]
  · unfold qd_h qd_g
    rw [e, qd_C0 l hl (l / 2) (by omega), qd_C1 l hl, if_pos rfl]
    by_cases h : l % 2 = 0
    · rw [if_pos h, if_pos h]
      exact Or.inl ⟨rfl, rfl, by decide⟩
    · rw [if_neg h, if_neg h]
      exact Or.inr ⟨rfl, rfl, rfl⟩
theorem qd_M_all : qd_M 255 8 := by
  intro v hv
  rw [qd_M0 v hv]
  exact ⟨fun h => absurd h (by decide), fun h => absurd h (by omega)⟩
theorem qd_M_but {w : Nat} (hw : w < 8) : qd_M ((255 : Int32) &&& (((1 : Int32) <<< (nI w &&& 31)) ^^^ (-1))) w := by
  intro v hv
  rw [qd_M1 w hw v hv]
  by_cases h : v = w
  · rw [if_pos h]
    exact ⟨fun _ => h, fun _ => rfl⟩
  · rw [if_neg h]
    exact ⟨fun z => absurd z (by decide), fun z => absurd z h⟩
theorem qd_s01 {a1 : Nat → Int32} {L : Nat} {s : Int32} (h : qd_C a1 L s) : s = 1 ∨ s = 0 := by
  obtain ⟨_, _, h | h⟩ := h
  · exact Or.inl h.1
  · exact Or.inr h.1
theorem qd_sm1 {a1 : Nat → Int32} {L : Nat} {s : Int32} (h : qd_C a1 L s) : (-1 : Int32) ≠ s := by
  rcases qd_s01 h with e | e
  · rw [e]; decide
  · rw [e]; decide
theorem qd_v_hi {p k j : Nat} (h : k ≤ j) : qd_v p k j = -1 := if_neg (by omega)
theorem qd_v_lo {p k j : Nat} (h : j < k) : qd_v p k j = nI (p / 2 ^ (k - 1 - j) % 2) := if_pos h
theorem qd_v_pos {p k j : Nat} (h : j < k) : 0 ≤ qd_v p k j := by
  rw [qd_v_lo h]
  exact nI_pos' (by omega)
end
section
section
variable {mk cl lo ls s : Int32} {a1 a2 a3 : Nat → Int32} {w L : Nat}
/-! isMakers -/
theorem qd_isM {post : Int32 → Prop} {v : Nat} (hm : qd_M mk w) (hv : v < 8) (h0 : v = w → post 0) (h1 : v ≠ w → post 1) : wpX_isMakers post (mk, cl, lo, ls, a1, a2, a3) (nI v) :=
  br_c (fun e => h0 ((hm v hv).mp e)) (fun e => h1 (fun z => e ((hm v hv).mpr z)))
/-! isOpen over follows -/
theorem qd_op_st {post : Int32 → Prop} {n i : Nat} (hc : qd_C a1 L s) (hi : i < 8) (h0 : a3 L = s → post 0) (hw : (i = L → a3 L ≠ s) → wX_isOpen_2 post 0 mk cl lo ls a1 a2 a3 n (nI (i + 1))) : wX_isOpen_2 post 0 mk cl lo ls a1 a2 a3 (n + 1) (nI i) := by
  have ec : (nI i).toNatClampNeg = i := nI_clamp (by omega)
  refine pk_le 8 i (fun z => absurd z (by omega)) (fun _ => ⟨pk_in 0 20 (by omega), fun x4 e4 => ⟨pk_in i 8 hi, ?_⟩⟩)
  have e5 : x4 = qd_h a1 i := e4
  clear e4
  rw [ec]
  obtain ⟨hL, hz, hs⟩ := hc
  by_cases e : i = L
  · rw [e] at e5
    rw [e]
    rw [e] at ec hi hw
    rcases hs with ⟨es, eh, _⟩ | ⟨es, eh, _⟩
    · rw [eh] at e5
      rw [es] at h0 hw
      rw [e5]
      refine br_c (fun z => br_f (by decide) (br_f (by decide) (h0 z))) (fun z => ⟨pk_in L 8 hi, ?_⟩)
      have K : wX_isOpen_53 post (wX_isOpen_2 post 0 mk cl lo ls a1 a2 a3 n) 0 (nI L) 1 mk cl lo ls a1 a2 a3 := br_t rfl (br_f (by decide) (nm_r (nI_1 L) (hw (fun _ => z))))
      exact br_c (fun _ => br_t (by decide) K) (fun _ => K)
    · rw [eh] at e5
      rw [es] at h0 hw
      rw [e5]
      have K : wX_isOpen_36 post (wX_isOpen_2 post 0 mk cl lo ls a1 a2 a3 n) 0 (nI L) 2 mk cl lo ls a1 a2 a3 := by
        refine ⟨pk_in L 8 hi, ?_⟩
        rw [ec]
        exact br_c (fun z => br_f (by decide) (br_f (by decide) (h0 z))) (fun z => br_t rfl (br_f (by decide) (nm_r (nI_1 L) (hw (fun _ => z)))))
      exact br_c (fun z => br_t (by decide) K) (fun z => K)
  · rw [hz i hi e] at e5
    rw [e5]
    have K : wX_isOpen_53 post (wX_isOpen_2 post 0 mk cl lo ls a1 a2 a3 n) 0 (nI i) 0 mk cl lo ls a1 a2 a3 := br_t rfl (br_f (by decide) (nm_r (nI_1 i) (hw (fun z => absurd z e))))
    have K6 : wX_isOpen_36 post (wX_isOpen_2 post 0 mk cl lo ls a1 a2 a3 n) 0 (nI i) 0 mk cl lo ls a1 a2 a3 := ⟨pk_in i 8 hi, br_c (fun _ => br_t (by decide) K) (fun _ => K)⟩
    exact br_c (fun _ => br_t (by decide) K6) (fun _ => K6)
theorem qd_op {post : Int32 → Prop} (hc : qd_C a1 L s) (h0 : a3 L = s → post 0) (h1 : a3 L ≠ s → post 1) : wpX_isOpen post (mk, cl, lo, ls, a1, a2, a3) 0 :=
  pk_loop (σ := Unit) (fun n i _ => wX_isOpen_2 post 0 mk cl lo ls a1 a2 a3 n (nI i)) (fun i _ => L < i → a3 L ≠ s) 8 0 () (by omega) (fun h => absurd h (by omega))
    (fun n _ h => pk_le 8 8 (fun _ => h1 (h hc.1)) (fun z => absurd z (by omega)))
    (fun n i _ hi h hw => qd_op_st hc hi h0 (fun z => hw () (fun hl => if e : i = L then z e else h (by omega))))
/-! isOpen over value -/
theorem qd_op2_st {post : Int32 → Prop} {n i : Nat} (hc : qd_C a1 L s) (hi : i < 8) (h0 : a2 L = s → post 0) (hw : (i = L → a2 L ≠ s) → wX_isOpen_2_2 post 0 mk cl lo ls a1 a2 a3 n (nI (i + 1))) : wX_isOpen_2_2 post 0 mk cl lo ls a1 a2 a3 (n + 1) (nI i) := by
  have ec : (nI i).toNatClampNeg = i := nI_clamp (by omega)
  refine pk_le 8 i (fun z => absurd z (by omega)) (fun _ => ⟨pk_in 0 20 (by omega), fun x4 e4 => ⟨pk_in i 8 hi, ?_⟩⟩)
  have e5 : x4 = qd_h a1 i := e4
  clear e4
  rw [ec]
  obtain ⟨hL, hz, hs⟩ := hc
  by_cases e : i = L
  · rw [e] at e5
    rw [e]
    rw [e] at ec hi hw
    rcases hs with ⟨es, eh, _⟩ | ⟨es, eh, _⟩
    · rw [eh] at e5
      rw [es] at h0 hw
      rw [e5]
      refine br_c (fun z => br_f (by decide) (br_f (by decide) (h0 z))) (fun z => ⟨pk_in L 8 hi, ?_⟩)
      have K : wX_isOpen_2_53 post (wX_isOpen_2_2 post 0 mk cl lo ls a1 a2 a3 n) 0 (nI L) 1 mk cl lo ls a1 a2 a3 := br_t rfl (br_f (by decide) (nm_r (nI_1 L) (hw (fun _ => z))))
      exact br_c (fun _ => br_t (by decide) K) (fun _ => K)
    · rw [eh] at e5
      rw [es] at h0 hw
      rw [e5]
      have K : wX_isOpen_2_36 post (wX_isOpen_2_2 post 0 mk cl lo ls a1 a2 a3 n) 0 (nI L) 2 mk cl lo ls a1 a2 a3 := by
        refine ⟨pk_in L 8 hi, ?_⟩
        rw [ec]
        exact br_c (fun z => br_f (by decide) (br_f (by decide) (h0 z))) (fun z => br_t rfl (br_f (by decide) (nm_r (nI_1 L) (hw (fun _ => z)))))
      exact br_c (fun z => br_t (by decide) K) (fun z => K)
  · rw [hz i hi e] at e5
    rw [e5]
    have K : wX_isOpen_2_53 post (wX_isOpen_2_2 post 0 mk cl lo ls a1 a2 a3 n) 0 (nI i) 0 mk cl lo ls a1 a2 a3 := br_t rfl (br_f (by decide) (nm_r (nI_1 i) (hw (fun z => absurd z e))))
    have K6 : wX_isOpen_2_36 post (wX_isOpen_2_2 post 0 mk cl lo ls a1 a2 a3 n) 0 (nI i) 0 mk cl lo ls a1 a2 a3 := ⟨pk_in i 8 hi, br_c (fun _ => br_t (by decide) K) (fun _ => K)⟩
    exact br_c (fun _ => br_t (by decide) K6) (fun _ => K6)
theorem qd_op2 {post : Int32 → Prop} (hc : qd_C a1 L s) (h0 : a2 L = s → post 0) (h1 : a2 L ≠ s → post 1) : wpX_isOpen_2 post (mk, cl, lo, ls, a1, a2, a3) 0 :=
  pk_loop (σ := Unit) (fun n i _ => wX_isOpen_2_2 post 0 mk cl lo ls a1 a2 a3 n (nI i)) (fun i _ => L < i → a2 L ≠ s) 8 0 () (by omega) (fun h => absurd h (by omega))
    (fun n _ h => pk_le 8 8 (fun _ => h1 (h hc.1)) (fun z => absurd z (by omega)))
    (fun n i _ hi h hw => qd_op2_st hc hi h0 (fun z => hw () (fun hl => if e : i = L then z e else h (by omega))))
/-! force -/
theorem qd_fo_sk {post : Int32 → St2 → Prop} {n i : Nat} {x2 x3 x4 : Int32} (hc : qd_C a1 L s) (hi : i < 8) (e : i ≠ L ∨ 0 ≤ a3 i) (hw : wX_force_12 post 0 mk cl lo ls a1 a2 a3 n x2 x3 x4 (nI i + (-1))) : wX_force_12 post 0 mk cl lo ls a1 a2 a3 (n + 1) x2 x3 x4 (nI i) := by
  have ec : (nI i).toNatClampNeg = i := nI_clamp (by omega)
  have K : wX_force_47 post (wX_force_12 post 0 mk cl lo ls a1 a2 a3 n) 0 x2 x3 x4 (nI i) mk cl lo ls a1 a2 a3 := br_t rfl (br_t rfl (nm_e hw))
  refine br_f (nI_pos (by omega)) ⟨pk_in i 8 hi, ?_⟩
  rw [ec]
  refine br_c (fun _ => K) (fun z => ⟨pk_in 0 20 (by omega), ?_⟩)
  rcases e with e | e
  · exact br_t (hc.2.1 i hi e) K
  · exact absurd e z
theorem qd_fo_sks {post : Int32 → St2 → Prop} {n i : Nat} {x2 x3 x4 : Int32} (hc : qd_C a1 L s) : ∀ k, i + k ≤ 8 → (∀ j, i ≤ j → j < i + k → j ≠ L ∨ 0 ≤ a3 j) → wX_force_12 post 0 mk cl lo ls a1 a2 a3 n x2 x3 x4 (nI i + (-1)) → wX_force_12 post 0 mk cl lo ls a1 a2 a3 (n + k) x2 x3 x4 (nI (i + k) + (-1))
  | 0, _, _, h => h
  | k + 1, hk, hj, h => by
    have t := qd_fo_sks hc k (by omega) (fun j h1 h2 => hj j h1 (by omega)) h
    have u := qd_fo_sk hc (i := i + k) (by omega) (hj (i + k) (by omega) (by omega)) t
    show wX_force_12 post 0 mk cl lo ls a1 a2 a3 (n + k + 1) x2 x3 x4 (nI (i + k + 1) + (-1))
    rw [pk_m1]
    exact u
theorem qd_fo_at {post : Int32 → St2 → Prop} {n : Nat} {x2 x3 x4 : Int32} (hc : qd_C a1 L s) (hm : qd_M mk w) (hA : ¬ 0 ≤ a3 L) (hb : L = w → wX_force_12 post 0 mk cl lo ls a1 a2 a3 n x2 x3 (nI L) (nI L + (-1))) (ho : L ≠ w → wX_force_12 post 0 mk cl lo ls a1 a2 a3 n (x2 + 1) (nI L) x4 (nI L + (-1))) : wX_force_12 post 0 mk cl lo ls a1 a2 a3 (n + 1) x2 x3 x4 (nI L + 1 + (-1)) := by
  have hL := hc.1
  have ec : (nI L).toNatClampNeg = L := nI_clamp (by omega)
  have hn : ¬ qd_h a1 L = 0 := by
    rcases hc.2.2 with ⟨_, e, _⟩ | ⟨_, e, _⟩
    · rw [e]; decide
    · rw [e]; decide
  rw [nI_1, pk_m1]
  refine br_f (nI_pos (by omega)) ⟨pk_in L 8 hL, ?_⟩
  rw [ec]
  exact br_f hA ⟨pk_in 0 20 (by omega), br_f hn (br_f (by decide) (qd_isM hm hL (fun e => br_t rfl (br_f (by decide) (nm_e (hb e)))) (fun e => br_f (by decide) (nm_e (nm_e (ho e))))))⟩
theorem qd_fo_0 {post : Int32 → St2 → Prop} {x3 x4 : Int32} (h : post 0 (mk, cl, lo, 1, a1, a2, a3)) : wX_force_12 post 0 mk cl lo ls a1 a2 a3 1 0 x3 x4 (nI 0 + (-1)) :=
  br_t (by decide) (br_t rfl ⟨rfl, rfl, br_f (by decide) h⟩)
theorem qd_fo_1 {post : Int32 → St2 → Prop} (hc : qd_C a1 L s) (h : post 1 (mk, cl, lo, 0, a1, a2, upd a3 L s)) : wX_force_12 post 0 mk cl lo ls a1 a2 a3 1 (0 + 1) (nI L) 8 (nI 0 + (-1)) := by
  obtain ⟨hL, _, hs⟩ := hc
  have ec : (nI L).toNatClampNeg = L := nI_clamp (by omega)
  refine br_t (by decide) (br_f (by decide) ⟨rfl, rfl, br_t (by decide) (pk_le L 8 (fun _ => ⟨pk_in 0 20 (by omega), ?_⟩) (fun z => absurd z (by omega)))⟩)
  rw [ec]
  rcases hs with ⟨es, _, eg⟩ | ⟨es, _, eg⟩
  · rw [es] at h
    exact br_f eg ⟨pk_in L 8 hL, nm_e h⟩
  · rw [es] at h
    exact br_t eg ⟨pk_in L 8 hL, nm_e h⟩
theorem qd_fo {post : Int32 → St2 → Prop} (hc : qd_C a1 L s) (hm : qd_M mk w) (hl : (0 ≤ a3 L ∨ L = w) → post 0 (mk, cl, lo, 1, a1, a2, a3)) (hn : ¬ (0 ≤ a3 L ∨ L = w) → post 1 (mk, cl, lo, 0, a1, a2, upd a3 L s)) : wpX_force post (mk, cl, lo, ls, a1, a2, a3) 0 := by
  have hL := hc.1
  have fin : (∃ n, wX_force_12 post 0 mk cl lo ls a1 a2 a3 n 0 (-1) 8 (nI 8 + (-1))) → wpX_force post (mk, cl, lo, ls, a1, a2, a3) 0 := by
    intro h
    have e : nI 8 + (-1) = 7 := by decide
    rw [e] at h
    exact h
  apply fin
  by_cases hA : 0 ≤ a3 L
  · have t : wX_force_12 post 0 mk cl lo ls a1 a2 a3 (1 + 8) 0 (-1) 8 (nI (0 + 8) + (-1)) := qd_fo_sks hc 8 (by omega) (fun j _ _ => if e : j = L then Or.inr (e ▸ hA) else Or.inl e) (qd_fo_0 (hl (Or.inl hA)))
    exact ⟨_, t⟩
  · have t : ∃ n, wX_force_12 post 0 mk cl lo ls a1 a2 a3 n 0 (-1) 8 (nI (L + 1) + (-1)) := by
      refine ⟨1 + L + 1, ?_⟩
      rw [← nI_1]
      refine qd_fo_at hc hm hA (fun e => ?_) (fun e => ?_)
      · have t := qd_fo_sks (i := 0) (n := 1) (x2 := 0) (x3 := -1) (x4 := nI L) hc L (by omega) (fun j _ _ => Or.inl (by omega)) (qd_fo_0 (ls := ls) (hl (Or.inr e)))
        rw [Nat.zero_add] at t
        exact t
      · have t := qd_fo_sks (i := 0) (n := 1) (x2 := 0 + 1) (x3 := nI L) (x4 := 8) hc L (by omega) (fun j _ _ => Or.inl (by omega)) (qd_fo_1 (ls := ls) hc (hn (fun z => z.elim hA e)))
        rw [Nat.zero_add] at t
        exact t
    obtain ⟨n, t⟩ := t
    have u := qd_fo_sks (i := L + 1) hc (7 - L) (by omega) (fun j _ _ => Or.inl (by omega)) t
    rw [show L + 1 + (7 - L) = 8 by omega] at u
    exact ⟨_, u⟩
/-! derive -/
theorem qd_rd {post : St2 → Prop} {J : Int32 → Int32 → Int32 → Int32 → Int32 → Int32 → (Nat → Int32) → (Nat → Int32) → (Nat → Int32) → Prop} {x3 : Int32} (hc : qd_C a1 L s) (hm : qd_M mk w)
    (h0 : 0 = lo ∨ a3 L = s → J 0 (x3 + 1) mk 1 lo 0 a1 a2 a3)
    (h1 : ¬ 0 = lo → a3 L ≠ s → (0 ≤ a3 L ∨ L = w) → J 0 (x3 + 1) mk 1 lo 1 a1 a2 a3)
    (h2 : ¬ 0 = lo → a3 L ≠ s → ¬ (0 ≤ a3 L ∨ L = w) → J 1 (x3 + 1) mk 1 lo 0 a1 a2 (upd a3 L s)) : wX_derive_57 post J x3 2 0 0 mk 1 lo 0 a1 a2 a3 :=
  br_f (by decide) (br_t rfl (br_c (fun e => nm_e (br_t (by decide) (nm_e (h0 (Or.inl e)))))
    (fun e => qd_op hc (fun o => br_t rfl (nm_e (br_t (by decide) (nm_e (h0 (Or.inr o))))))
      (fun o => br_f (by decide) (qd_fo hc hm (fun z => br_t rfl (br_t rfl (nm_e (br_t (by decide) (nm_e (h1 e o z)))))) (fun z => br_f (by decide) (nm_e (br_t (by decide) (nm_e (h2 e o z))))))))))
theorem qd_d35 {post : St2 → Prop} (hc : qd_C a1 L s) (hm : qd_M mk w)
    (h0 : 0 = lo ∨ a3 L = s → post (mk, 1, lo, 0, a1, a2, a3))
    (h1 : ¬ 0 = lo → a3 L ≠ s → (0 ≤ a3 L ∨ L = w) → post (mk, 1, lo, 1, a1, a2, a3))
    (h2 : ¬ 0 = lo → a3 L ≠ s → ¬ (0 ≤ a3 L ∨ L = w) → post (mk, 1, lo, 0, a1, a2, upd a3 L s)) : ∃ n, wX_derive_35 post n 1 0 mk 1 lo 0 a1 a2 a3 :=
  ⟨3, br_f (by decide) (br_f (by decide) (br_t rfl ⟨2, qd_rd hc hm (fun z => br_f (by decide) (br_t rfl (h0 z))) (fun e o z => br_f (by decide) (br_t rfl (h1 e o z)))
    (fun e o z => br_f (by decide) (br_f (by decide) (br_t rfl ⟨2, qd_rd hc hm (fun _ => br_f (by decide) (br_t rfl (h2 e o z))) (fun _ q _ => absurd pk_us q) (fun _ q _ => absurd pk_us q)⟩)))⟩))⟩
theorem qd_dr {post : St2 → Prop} {v : Int32} (hc : qd_C a1 L s) (hm : qd_M mk w)
    (hl : qd_lost lo w L s (a2 L) → ∀ b, post (mk, 1, lo, 1, a1, a2, b))
    (hn : ¬ qd_lost lo w L s (a2 L) → ∀ b, (¬ 0 = lo → b L = s) → post (mk, 1, lo, 0, a1, a2, b)) : wpX_derive post (mk, 1, lo, ls, a1, a2, a3) v := by
  have hL := hc.1
  refine pk_loop (fun n i b => wX_derive_7 post mk 1 lo 0 n (nI i) a1 a2 b) (fun i b => ∀ j, j < i → b j = a2 j) 8 0 a3 (by omega) (fun j hj => absurd hj (by omega)) (fun n b h => ?_) (fun n i b hi h hw => ?_)
  · have e := h L hL
    refine pk_le 8 8 (fun _ => qd_d35 hc hm (fun z => ?_) (fun z1 z2 z3 => ?_) (fun z1 z2 z3 => ?_)) (fun z => absurd z (by omega))
    · refine hn (fun q => ?_) b (fun q => ?_)
      · rcases z with z | z
        · exact q.1 z
        · exact q.2.1 (e ▸ z)
      · rcases z with z | z
        · exact absurd z q
        · exact z
    · rw [e] at z2 z3
      exact hl ⟨z1, z2, z3⟩ b
    · rw [e] at z2 z3
      exact hn (fun q => z3 q.2.2) _ (fun _ => pk_us)
  · refine pk_le 8 i (fun z => absurd z (by omega)) (fun _ => ⟨pk_in i 8 hi, pk_in i 8 hi, nm_e (nm_r (nI_1 i) (hw _ (fun j hj => ?_)))⟩)
    rw [nI_clamp (show i < 2 ^ 31 by omega)]
    by_cases e : j = i
    · rw [e, pk_us]
    · rw [pk_un e]
      exact h j (by omega)
/-! occurs, needsBoth, firstValue -/
theorem qd_oc {post : Int32 → Prop} {v : Nat} (hc : qd_C a1 L s) (hv : v < 8) (h : 0 = lo ∨ v ≠ L) (hp : post 0) : wpX_occurs post (mk, 1, lo, ls, a1, a2, a3) (nI v) := by
  have E : wX_occurs_2 post (nI v) mk 1 lo ls a1 a2 a3 1 (0 + 1) := br_t (by decide) hp
  refine ⟨2, br_f (by decide) (br_c (fun _ => nm_e E) (fun e => qd_op2 hc (fun _ => br_t rfl (nm_e E)) (fun _ => br_f (by decide) ⟨pk_in 0 20 (by omega), ?_⟩)))⟩
  rcases h with h | h
  · exact absurd h e
  · exact br_t (hc.2.1 v hv h) (nm_e E)
theorem qd_nb {post : Int32 → St2 → Prop} {v : Nat} (hc : qd_C a1 L s) (hm : qd_M mk w) (hv : v < 8) (h : 0 = lo ∨ v ≠ L) (hp : ∀ t b2 b3, post 0 (mk, 1, lo, t, a1, b2, b3)) : wpX_needsBoth post (mk, 1, lo, ls, a1, a2, a3) (nI v) :=
  ⟨pk_in v 8 hv, nm_e (qd_dr hc hm
    (fun _ b => qd_oc hc hv h ⟨pk_in v 8 hv, nm_e (qd_isM hm hv (fun _ => br_t rfl (br_t rfl (hp _ _ _))) (fun _ => br_f (by decide) ⟨pk_in v 8 hv, br_c (fun _ => br_t rfl (hp _ _ _)) (fun _ => br_t rfl (hp _ _ _))⟩))⟩)
    (fun _ b _ => qd_oc hc hv h ⟨pk_in v 8 hv, nm_e (qd_isM hm hv (fun _ => br_t rfl (br_t rfl (hp _ _ _))) (fun _ => br_f (by decide) ⟨pk_in v 8 hv, br_c (fun _ => br_t rfl (hp _ _ _)) (fun _ => br_t rfl (hp _ _ _))⟩))⟩))⟩
theorem qd_fv {post : Int32 → Prop} {v : Nat} (hs : s = 1 ∨ s = 0) (hm : qd_M mk w) (hv : v < 8) (hp : ∀ x, (v ≠ w → a3 v = s → x = s) → post x) : wpX_firstValue post (mk, cl, lo, ls, a1, a2, a3) (nI v) := by
  have ec : (nI v).toNatClampNeg = v := nI_clamp (by omega)
  unfold wpX_firstValue
  refine qd_isM hm hv (fun e => br_t rfl (hp 0 (fun n => absurd e n))) (fun e => br_f (by decide) ⟨pk_in v 8 hv, ?_⟩)
  rw [ec]
  exact br_c (fun z => hp 1 (fun _ q => z.symm.trans q)) (fun z => hp 0 (fun _ q => hs.elim (fun g => absurd (q.trans g) z) (fun g => g.symm)))
end
end
section
section
variable {mk lo s : Int32} {a1 : Nat → Int32} {w L k : Nat} {post : Int32 → St2 → Prop}
/-! up again, with the result 1 -/
theorem qd_up (hc : qd_C a1 L s) (hm : qd_M mk w) (h : 0 = lo ∨ (k ≤ w → w ≠ L)) (hp : ∀ t b2 b3, post 1 (mk, 1, lo, t, a1, b2, b3)) : ∀ (d t : Nat), k + d ≤ 8 → t + d < 2000 → ∀ (ls : Int32) (a2 a3 : Nat → Int32), wX_isWon_54 post (nI k) (d + 1) (nI (k + d)) 0 1 (nI t) mk 1 lo ls a1 a2 a3
  | 0, t, hk, ht, ls, a2, a3 => br_f (nI_ge (b := 2000) (by omega) (by decide)) (br_t rfl (br_t rfl ⟨rfl, hp _ _ _⟩))
  | d + 1, t, hk, ht, ls, a2, a3 => by
    have hv : k + d < 8 := by omega
    have ih := qd_up hc hm h hp d (t + 1) (by omega) (by omega)
    have K : ∀ (ls : Int32) (a2 a3 : Nat → Int32), wX_isWon_164 post (wX_isWon_54 post (nI k) (d + 1)) (nI k) (nI (k + d)) 1 (nI t) mk 1 lo ls a1 a2 a3 := fun ls a2 a3 =>
      br_t rfl ⟨pk_in (k + d) 8 hv, nm_e (br_t rfl (nm_r (Int32.add_zero _) (nm_r (nI_1 t) (ih _ _ _))))⟩
    have hne : ¬ nI (k + (d + 1)) = nI k := fun z => absurd ((nI_eq (by omega) (by omega)).mp z) (by omega)
    refine br_f (nI_ge (b := 2000) (by omega) (by decide)) (br_t rfl (br_f hne (nm_r (pk_m1 (k + d)) ⟨pk_in (k + d) 8 hv, br_c (fun _ => ?_) (fun _ => K _ _ _)⟩)))
    refine qd_isM hm hv (fun e => br_f (by decide) (qd_nb hc hm hv ?_ (fun t2 b2 b3 => br_t rfl (K _ _ _)))) (fun e => br_t rfl (K _ _ _))
    rcases h with h | h
    · exact Or.inl h
    · exact Or.inr (by have := h (by omega); omega)
/-! down -/
theorem qd_dn (hc : qd_C a1 L s) (hm : qd_M mk w) (hk8 : k ≤ 8) (h : 0 = lo ∨ (k ≤ w → w ≠ L)) (hp : ∀ t b2 b3, post 1 (mk, 1, lo, t, a1, b2, b3)) : ∀ (d v t : Nat), v + d = 8 → k ≤ v → t + d < 1000 → ∀ (x5 ls : Int32) (a2 a3 : Nat → Int32), (∀ j, v ≤ j → j < 8 → a2 j = -1) → (¬ 0 = lo → (v ≤ L → L ≠ w) ∧ (L < v → a2 L = s)) → wX_isWon_54 post (nI k) (8 - k + 1 + 1 + d) (nI v) 1 x5 (nI t) mk 1 lo ls a1 a2 a3 := by
  have hL := hc.1
  have nl : ∀ (v : Nat) (a2 : Nat → Int32), (∀ j, v ≤ j → j < 8 → a2 j = -1) → (¬ 0 = lo → (v ≤ L → L ≠ w) ∧ (L < v → a2 L = s)) → ¬ qd_lost lo w L s (a2 L) := by
    intro v a2 h1 h2 q
    obtain ⟨q1, q2, q3⟩ := q
    obtain ⟨g1, g2⟩ := h2 q1
    rcases Nat.lt_or_ge L v with z | z
    · exact q2 (g2 z)
    · rw [h1 L z hL] at q3
      rcases q3 with q3 | q3
      · exact absurd q3 (by decide)
      · exact g1 z q3
  intro d
  induction d with
  | zero =>
    intro v t hv hkv ht x5 ls a2 a3 h1 h2
    have e8 : v = 8 := by omega
    have u : ∀ (ls : Int32) (a2 a3 : Nat → Int32), wX_isWon_54 post (nI k) (8 - k + 1) (nI (k + (8 - k))) 0 1 (nI (t + 1)) mk 1 lo ls a1 a2 a3 := qd_up hc hm h hp (8 - k) (t + 1) (by omega) (by omega)
    rw [show k + (8 - k) = 8 by omega] at u
    rw [e8]
    exact br_f (nI_ge (b := 2000) (by omega) (by decide)) (br_f (by decide) (qd_dr hc hm (fun z => absurd z (nl v a2 h1 h2)) (fun _ b _ => br_t rfl (br_t rfl (br_t rfl (nm_r (nI_1 t) (u _ _ _)))))))
  | succ d ih =>
    intro v t hv hkv ht x5 ls a2 a3 h1 h2
    have ec : (nI v).toNatClampNeg = v := nI_clamp (by omega)
    have hv8 : v < 8 := by omega
    refine br_f (nI_ge (b := 2000) (by omega) (by decide)) (br_f (by decide) (qd_dr hc hm (fun z => absurd z (nl v a2 h1 h2)) (fun _ b hb => br_t rfl (pk_eq v 8 (fun e => absurd e (by omega)) (fun _ => ?_)))))
    refine qd_fv (qd_s01 hc) hm hv8 (fun x hx => ⟨pk_in v 8 hv8, nm_r (by rw [ec]) (nm_r (nI_1 v) (nm_r (nI_1 t) ?_))⟩)
    refine ih (v + 1) (t + 1) (by omega) (by omega) (by omega) _ _ _ _ (fun j hj hj8 => ?_) (fun q => ⟨fun z => (h2 q).1 (by omega), fun z => ?_⟩)
    · rw [pk_un (by omega)]
      exact h1 j (by omega) hj8
    · by_cases e : L = v
      · rw [e, pk_us]
        exact hx (e ▸ (h2 q).1 (by omega)) (e ▸ hb q)
      · rw [pk_un e]
        exact (h2 q).2 (by omega)
/-! lengthOf: 2 ^ k ≤ p < 2 ^ (k + 1) -/
theorem qd_len {P : Int32 → Prop} {p : Nat} (hk : k ≤ 8) (h1 : 2 ^ k ≤ p) (h2 : p < 2 ^ (k + 1)) (h : P (nI k)) : wpX_lengthOf P () (nI p) := by
  have hp9 : p < 512 := Nat.lt_of_lt_of_le h2 (Nat.pow_le_pow_right (n := 2) (j := 9) (by omega) (by omega))
  refine Exists.elim (pk_loop (σ := Unit) (fun n i _ => wX_lengthOf_4 P (nI p) n (nI (min (i - 1) k)) (nI i)) (fun i _ => 1 ≤ i) 9 1 () (by omega) (by omega) (fun n _ _ => ?_) (fun n i _ hi h0 hw => ?_)) (fun n hn => ?_)
  · show wX_lengthOf_4 P (nI p) (n + 1) (nI (min (9 - 1) k)) (nI 9)
    rw [show min (9 - 1) k = k by omega]
    exact pk_le 9 9 (fun _ => h) (fun z => absurd z (by omega))
  · have t : wX_lengthOf_4 P (nI p) n (nI (min (i + 1 - 1) k)) (nI (i + 1)) := hw () (by omega)
    show wX_lengthOf_4 P (nI p) (n + 1) (nI (min (i - 1) k)) (nI i)
    refine pk_le 9 i (fun z => absurd z (by omega)) (fun _ => ?_)
    rw [pk_ushrN (show p < 2 ^ 32 by omega) (nI i) i (qd_su i (by omega))]
    have hd : p / 2 ^ i ≤ p := Nat.div_le_self _ _
    rcases Nat.lt_or_ge k i with z | z
    · have e : p / 2 ^ i = 0 := Nat.div_eq_of_lt (Nat.lt_of_lt_of_le h2 (Nat.pow_le_pow_right (by omega) (by omega)))
      rw [show min (i + 1 - 1) k = min (i - 1) k by omega] at t
      exact br_t (by rw [e]; rfl) (nm_r (nI_1 i) t)
    · have e : 0 < p / 2 ^ i := Nat.div_pos (Nat.le_trans (Nat.pow_le_pow_right (by omega) z) h1) (Nat.two_pow_pos i)
      rw [show min (i + 1 - 1) k = i by omega] at t
      exact br_f (nI_ne0 e (by omega)) (nm_r (nI_1 i) t)
  · have hn2 : wX_lengthOf_4 P (nI p) n (nI (min (1 - 1) k)) (nI 1) := hn
    rw [show min (1 - 1) k = 0 by omega] at hn2
    exact ⟨n, hn2⟩
/-! isWon -/
theorem qd_bit {p i : Nat} (hp : p < 512) (hk : k ≤ 8) (hi : i < k) : ((nI p).toUInt32 >>> (((nI k - 1) - nI i).toUInt32 &&& Int32.toUInt32 31)).toInt32 &&& 1 = qd_v p k i := by
  have e : (nI k - 1) - nI i = nI (k - 1 - i) := by
    have e1 : nI k - 1 = nI (k - 1) := pk_sub (a := k) (b := 1) (by omega)
    rw [e1, pk_sub (by omega)]
  have hd : p / 2 ^ (k - 1 - i) ≤ p := Nat.div_le_self _ _
  rw [e, pk_ushrN (show p < 2 ^ 32 by omega) _ (k - 1 - i) (qd_su _ (by omega)), pk_andN (by omega) 1 (by decide), qd_v_lo hi]
theorem qd_iw {p : Nat} {ls : Int32} {a2 a3 : Nat → Int32} (hc : qd_C a1 L s) (hm : qd_M mk w) (hk : k ≤ 8) (h1 : 2 ^ k ≤ p) (h2 : p < 2 ^ (k + 1))
    (hw : ¬ qd_lost lo w L s (qd_v p k L) → ∀ t b2 b3, post 1 (mk, 1, lo, t, a1, b2, b3))
    (hl : qd_lost lo w L s (qd_v p k L) → ∀ t b2 b3, post 0 (mk, 1, lo, t, a1, b2, b3)) : wpX_isWon post (mk, 1, lo, ls, a1, a2, a3) (nI p) := by
  have hL := hc.1
  have hp9 : p < 512 := Nat.lt_of_lt_of_le h2 (Nat.pow_le_pow_right (n := 2) (j := 9) (by omega) (by omega))
  refine qd_len hk h1 h2 ?_
  refine pk_loop (fun n i b => wX_isWon_7 post (nI p) (nI k) mk 1 lo ls n (nI i) a1 b a3) (fun i b => ∀ j, j < i → b j = qd_v p k j) 8 0 a2 (by omega) (fun j hj => absurd hj (by omega)) (fun n b hb => ?_) (fun n i b hi hb hwn => ?_)
  · refine pk_le 8 8 (fun _ => ?_) (fun z => absurd z (by omega))
    have eL := hb L hL
    by_cases q : qd_lost lo w L s (b L)
    · refine ⟨2, br_f (by decide) (br_f (by decide) (qd_dr hc hm (fun _ b2 => br_f (by decide) (br_f (by decide) (nm_e (br_f (by decide) (br_t rfl (br_t rfl ⟨rfl, hl (eL ▸ q) _ _ _⟩)))))) (fun z => absurd q z)))⟩
    · have q2 : ¬ 0 = lo → (k ≤ L → L ≠ w) ∧ (L < k → b L = s) := by
        intro hlo
        constructor
        · intro z e
          refine q ⟨hlo, ?_, Or.inr e⟩
          rw [eL, qd_v_hi z]
          exact qd_sm1 hc
        · intro z
          by_cases e : b L = s
          · exact e
          · exact absurd ⟨hlo, e, Or.inl (by rw [eL]; exact qd_v_pos z)⟩ q
      have q3 : 0 = lo ∨ (k ≤ w → w ≠ L) := by
        by_cases hlo : 0 = lo
        · exact Or.inl hlo
        · exact Or.inr (fun z e => (q2 hlo).1 (by omega) e.symm)
      exact ⟨_, qd_dn hc hm hk q3 (hw (eL ▸ q)) (8 - k) k 0 (by omega) (by omega) (by omega) 0 ls b a3 (fun j hj hj8 => by rw [hb j hj8, qd_v_hi hj]) q2⟩
  · have F : ∀ x, x = qd_v p k i → ∀ j, j < i + 1 → upd b (nI i).toNatClampNeg x j = qd_v p k j := by
      intro x hx j hj
      rw [nI_clamp (show i < 2 ^ 31 by omega)]
      by_cases e : j = i
      · rw [e, pk_us, hx]
      · rw [pk_un e]
        exact hb j (by omega)
    exact pk_le 8 i (fun z => absurd z (by omega)) (fun _ => pk_le k i (fun z => ⟨pk_in i 8 hi, nm_e (nm_r (nI_1 i) (hwn _ (F _ (qd_v_hi z).symm)))⟩) (fun z => ⟨pk_in i 8 hi, nm_e (nm_r (nI_1 i) (hwn _ (F _ (qd_bit hp9 hk z))))⟩))
end
end
section
section
variable {mk lo ls s : Int32} {a1 a2 a3 : Nat → Int32} {w L k : Nat} {post : Int32 → St2 → Prop}
theorem qd_lk : ∀ (m p : Nat), 1 ≤ p → p < 2 ^ m → ∃ k, k < m ∧ 2 ^ k ≤ p ∧ p < 2 ^ (k + 1)
  | 0, p, h1, h2 => absurd h2 (by omega)
  | m + 1, p, h1, h2 => by
    rcases Nat.lt_or_ge p (2 ^ m) with z | z
    · obtain ⟨k, a, b, c⟩ := qd_lk m p h1 z
      exact ⟨k, by omega, b, c⟩
    · exact ⟨m, by omega, z, h2⟩
/-! count -/
theorem qd_cnt {f : Nat → Bool} {z : Int32} (hc : qd_C a1 L s) (hm : qd_M mk w) (hk : k ≤ 8) (hf : ∀ p, f p = true ↔ ¬ qd_lost (-1) w L s (qd_v p k L)) (hz : nI (qd_c f (2 ^ k) (2 ^ k)) = z)
    (hp : ∀ t b2 b3, post z (mk, 1, -1, t, a1, b2, b3)) : wpX_count post (mk, 1, -1, ls, a1, a2, a3) (nI k) := by
  have h8 := qd_p8 k (by omega)
  have hpw : 2 ^ (k + 1) = 2 ^ k + 2 ^ k := by rw [Nat.pow_succ]; omega
  refine br_f (nI_pos (by omega)) (br_t (nI_le hk (by decide)) (nm_r (qd_s1 k (by omega)) ?_))
  refine pk_loop (σ := Int32 × (Nat → Int32) × (Nat → Int32)) (fun n i st => wX_count_18 post (nI k) n (nI (qd_c f (2 ^ k) i)) (nI (2 ^ k + i)) mk 1 (-1) st.1 a1 st.2.1 st.2.2) (fun _ _ => True) (2 ^ k) 0 (ls, a2, a3) (Nat.zero_le _) trivial (fun n st _ => ?_) (fun n i st hi _ hw => ?_)
  · show wX_count_18 post (nI k) (n + 1) (nI (qd_c f (2 ^ k) (2 ^ k))) (nI (2 ^ k + 2 ^ k)) mk 1 (-1) st.1 a1 st.2.1 st.2.2
    rw [hz]
    exact br_t (by rw [qd_s2 k (by omega)]; exact nI_le (Nat.le_refl _) (by omega)) (hp _ _ _)
  · show wX_count_18 post (nI k) (n + 1) (nI (qd_c f (2 ^ k) i)) (nI (2 ^ k + i)) mk 1 (-1) st.1 a1 st.2.1 st.2.2
    have hw2 : ∀ (t : Int32) (b2 b3 : Nat → Int32), wX_count_18 post (nI k) n (nI (qd_c f (2 ^ k) i + (if f (2 ^ k + i) = true then 1 else 0))) (nI (2 ^ k + i + 1)) mk 1 (-1) t a1 b2 b3 := fun t b2 b3 => hw (t, b2, b3) trivial
    refine br_f (by rw [qd_s2 k (by omega)]; exact nI_ge (by omega) (by omega)) (qd_iw hc hm hk (by omega) (by omega) (fun nl t b2 b3 => ?_) (fun l t b2 b3 => ?_))
    · rw [if_pos ((hf _).mpr nl)] at hw2
      exact br_f (by decide) (nm_r (nI_1 _) (nm_r (nI_1 _) (hw2 t b2 b3)))
    · rw [if_neg (fun q => (hf _).mp q l)] at hw2
      exact br_t rfl (nm_r (Int32.add_zero _) (nm_r (nI_1 _) (hw2 t b2 b3)))
/-! what count counts -/
theorem qd_f_lo {p t : Nat} (hs : s = nI t) (ht : t < 2) (hk : L < k) : decide (p / 2 ^ (k - 1 - L) % 2 = t) = true ↔ ¬ qd_lost (-1) w L s (qd_v p k L) := by
  have e : nI (p / 2 ^ (k - 1 - L) % 2) = nI t ↔ p / 2 ^ (k - 1 - L) % 2 = t := nI_eq (by omega) (by omega)
  rw [decide_eq_true_iff, ← e, qd_v_lo hk, hs]
  constructor
  · intro h q
    exact q.2.1 h
  · intro h
    by_cases z : nI (p / 2 ^ (k - 1 - L) % 2) = nI t
    · exact z
    · exact absurd ⟨by decide, z, Or.inl (nI_pos' (by omega))⟩ h
theorem qd_f_hi {p : Nat} (hc : qd_C a1 L s) (hk : k ≤ L) : decide (L ≠ w) = true ↔ ¬ qd_lost (-1) w L s (qd_v p k L) := by
  rw [decide_eq_true_iff, qd_v_hi hk]
  constructor
  · intro h q
    rcases q.2.2 with z | z
    · exact absurd z (by decide)
    · exact h z
  · intro h z
    exact h ⟨by decide, qd_sm1 hc, Or.inr z⟩
/-! drop, won, swapped, spare -/
theorem qd_drop {v : Int32} (h0 : v = 0 → ∀ c, post 0 (mk, c, lo, ls, a1, a2, a3)) (h1 : ¬ v = 0 → post (-1) (mk, 1, lo, ls, a1, a2, a3)) : wpX_drop post (mk, 1, lo, ls, a1, a2, a3) v := by
  refine br_c (fun z => h1 (fun e => ?_)) (fun z => br_c (fun z2 => ?_) (fun z2 => h1 (fun e => ?_)))
  · rw [e] at z
    exact absurd z (by decide)
  · obtain ⟨j, hj, e⟩ := nI_of z
    have e0 : v = 0 := by
      rw [e] at z2
      have := (nI_ltI (a := j) (b := 1) hj (by decide)).mp z2
      rw [e, show j = 0 by omega]
      rfl
    rw [e0]
    exact nm_r (e' := 0) (by decide) ⟨1, br_t (by decide) (h0 e0 _)⟩
  · rw [e] at z2
    exact absurd z2 (by decide)
theorem qd_won {x : Int32} (hc : qd_C a1 L s) (hm : qd_M mk w) (ho : x < 1 ∨ ¬ x ≤ 511 → post (-1) (mk, 1, lo, ls, a1, a2, a3))
    (h0 : ¬ x < 1 → x ≤ 511 → ∀ t b2 b3, post 0 (mk, 1, lo, t, a1, b2, b3)) (h1 : ¬ x < 1 → x ≤ 511 → ∀ t b2 b3, post 1 (mk, 1, lo, t, a1, b2, b3)) : wpX_won post (mk, 1, lo, ls, a1, a2, a3) x := by
  refine br_c (fun z => ho (Or.inl z)) (fun z => br_c (fun z2 => ?_) (fun z2 => ho (Or.inr z2)))
  have zn : ¬ x < 0 := fun q => z (Int32.lt_trans q (by decide))
  obtain ⟨p, hp, e⟩ := nI_of2 (M := 511) (n := 511) (by decide) zn z2
  have hp1 : 1 ≤ p := by
    rcases Nat.eq_zero_or_pos p with q | q
    · rw [e, q] at z
      exact absurd (show nI 0 < 1 by decide) z
    · exact q
  obtain ⟨k, hk, g1, g2⟩ := qd_lk 9 p hp1 (by omega)
  have H0 := h0 z z2
  have H1 := h1 z z2
  rw [e]
  exact qd_iw hc hm (by omega) g1 g2 (fun _ t b2 b3 => br_f (by decide) (H1 t b2 b3)) (fun _ t b2 b3 => br_t rfl (H0 t b2 b3))
theorem qd_won1 (hc : qd_C a1 L s) (hm : qd_M mk w) (h0 : L = w → ∀ t b2 b3, post 0 (mk, 1, -1, t, a1, b2, b3)) (h1 : L ≠ w → ∀ t b2 b3, post 1 (mk, 1, -1, t, a1, b2, b3)) : wpX_won post (mk, 1, -1, ls, a1, a2, a3) 1 := by
  refine br_f (by decide) (br_t (by decide) (qd_iw (k := 0) (p := 1) hc hm (by omega) (by decide) (by decide) (fun q t b2 b3 => br_f (by decide) (h1 (fun e => ?_) t b2 b3)) (fun q t b2 b3 => br_t rfl (h0 ?_ t b2 b3))))
  · exact q ⟨by decide, by rw [qd_v_hi (by omega)]; exact qd_sm1 hc, Or.inr e⟩
  · rw [qd_v_hi (by omega)] at q
    rcases q.2.2 with z | z
    · exact absurd z (by decide)
    · exact z
theorem qd_swapped {v : Int32} (hc : qd_C a1 L s) (hw : w < 8) (hv : v &&& 7 = nI w) (hmk : mk = (255 : Int32) &&& (((1 : Int32) <<< (nI w &&& 31)) ^^^ (-1))) (hp : ∀ t b2 b3, post 1 (mk, 1, lo, t, a1, b2, b3)) : wpX_swapped post (mk, 1, lo, ls, a1, a2, a3) v := by
  have hL := hc.1
  have e1 : mk ^^^ ((1 : Int32) <<< ((v &&& 7) &&& 31)) = 255 := by rw [hv, hmk]; exact qd_M2 w hw
  have e2 : (255 : Int32) ^^^ ((1 : Int32) <<< ((v &&& 7) &&& 31)) = mk := by rw [hv, hmk]; exact qd_M3 w hw
  refine nm_r e1 (qd_iw (k := 0) (p := 1) hc qd_M_all (by omega) (by decide) (by decide) (fun _ t b2 b3 => nm_r e2 (br_f (by decide) (hp t b2 b3))) (fun q => ?_))
  rw [qd_v_hi (by omega)] at q
  rcases q.2.2 with z | z
  · exact absurd z (by decide)
  · exact absurd z (by omega)
theorem qd_spare (hc : qd_C a1 L s) (hm : qd_M mk w) (hp : ∀ t b2 b3, post 1 (mk, 1, -1, t, a1, b2, b3)) : wpX_spare post (mk, 1, lo, ls, a1, a2, a3) 0 :=
  br_f (by decide) (br_t (by decide) (qd_iw (k := 0) (p := 1) hc hm (by omega) (by decide) (by decide) (fun _ t b2 b3 => br_f (by decide) (hp t b2 b3)) (fun q => absurd rfl q.1)))
end
end
section
section
variable {mk ls s v pos kk x6 : Int32} {a1 a2 a3 : Nat → Int32} {w l mc ms kc ks : Nat}
theorem qd_180 {z : Int32} (H : ∀ P : Int32 → St2 → Prop, (∀ t b2 b3, P z (mk, 1, -1, t, a1, b2, b3)) → wpX_count P (mk, 1, -1, ls, a1, a2, a3) kk) : wL_lawOf_180 (fun r _ => r = 1) mc ms v kk z kc ks mk 1 (-1) ls a1 a2 a3 :=
  H _ (fun t b2 b3 => br_t rfl (qd_drop (fun e _ => br_t e (br_t rfl rfl)) (fun e => br_f e (br_t rfl rfl))))
theorem qd_138 (hl : l < 16) (hc : qd_C a1 (l / 2) (if l % 2 = 0 then 1 else 0)) (hm : qd_M mk w) (hx : x6 = 0 ↔ l / 2 = w) : wL_lawOf_138 (fun r _ => r = 1) mc ms v kk (nI l) x6 kc ks mk 1 (-1) ls a1 a2 a3 := by
  refine br_c (fun z => qd_180 (fun P hP => br_t z (hP _ _ _))) (fun z => br_c (fun z8 => ?_) (fun z8 => qd_180 (fun P hP => br_f z (br_f z8 (hP _ _ _)))))
  obtain ⟨k, hk, e⟩ := nI_of2 (M := 8) (n := 8) (by decide) z z8
  rw [e, qd_l1 l hl]
  refine pk_le k (l / 2) (fun q => br_c (fun g => qd_180 (fun P hP => qd_cnt (f := fun _ => decide (l / 2 ≠ w)) hc hm hk (fun p => qd_f_hi hc q) ?_ hP)) (fun g => qd_180 (fun P hP => qd_cnt (f := fun _ => decide (l / 2 ≠ w)) hc hm hk (fun p => qd_f_hi hc q) ?_ hP))) (fun q => qd_180 (fun P hP => qd_cnt (f := fun p => decide (p / 2 ^ (k - 1 - l / 2) % 2 = (if l % 2 = 0 then 1 else 0))) hc hm hk (fun p => qd_f_lo ?_ ?_ q) ?_ hP))
  · rw [qd_c_f _ (fun j _ => decide_eq_false (fun n => n (hx.mp g)))]
    rfl
  · rw [qd_c_t _ (fun j _ => decide_eq_true (show l / 2 ≠ w from fun n => g (hx.mpr n))), qd_s1 k (by omega)]
  · by_cases h : l % 2 = 0
    · rw [if_pos h, if_pos h]; rfl
    · rw [if_neg h, if_neg h]; rfl
  · by_cases h : l % 2 = 0
    · rw [if_pos h]; decide
    · rw [if_neg h]; decide
  · have ht : (if l % 2 = 0 then 1 else 0) < 2 := by
      by_cases h : l % 2 = 0
      · rw [if_pos h]; decide
      · rw [if_neg h]; decide
    rw [qd_half k (by omega) (l / 2) q _ ht, qd_s3 k (by omega) (by omega)]
theorem qd_71 {z : Int32} (hl : l < 16) (hc : qd_C a1 (l / 2) (if l % 2 = 0 then 1 else 0)) (hw : w < 8) (hv : v &&& 7 = nI w) (hmk : mk = (255 : Int32) &&& (((1 : Int32) <<< (nI w &&& 31)) ^^^ (-1))) (hx : x6 = 0 ↔ l / 2 = w) : wL_lawOf_71 (fun r _ => r = 1) mc ms v pos kk (nI l) x6 z z kc ks mk 1 (-1) ls a1 a2 a3 := by
  have hm : qd_M mk w := by rw [hmk]; exact qd_M_but hw
  refine br_t rfl (qd_swapped hc hw hv hmk (fun t b2 b3 => br_t rfl (qd_spare hc hm (fun t b2 b3 => br_t rfl (qd_won hc hm (fun z => ?_) (fun z1 z2 t b2 b3 => br_f z1 (br_t z2 (br_t rfl (qd_138 hl hc hm hx)))) (fun z1 z2 t b2 b3 => br_f z1 (br_t z2 (br_f (by decide) (br_t rfl (qd_138 hl hc hm hx))))))))))
  by_cases z1 : pos < 1
  · exact br_t z1 (br_t rfl (qd_138 hl hc hm hx))
  · rcases z with z | z
    · exact absurd z z1
    · exact br_f z1 (br_f z (br_t rfl (qd_138 hl hc hm hx)))
theorem qd_46 {z : Int32} (hl : l < 16) (hc : qd_C a1 (l / 2) (if l % 2 = 0 then 1 else 0)) (hw : w < 8) (hv : v &&& 7 = nI w) (hx : z = 0 ↔ l / 2 = w) : wL_lawOf_46 (fun r _ => r = 1) mc ms v pos kk (nI l) z kc ks 255 1 (-1) ls a1 a2 a3 := by
  have e1 : (1 : Int32) <<< ((v &&& 7) &&& 31) = (1 : Int32) <<< (nI w &&& 31) := by rw [hv]
  refine nm_r e1 (br_t rfl (nm_e (qd_won1 hc (qd_M_but hw) (fun e t b2 b3 => br_t (hx.mpr e) (qd_71 hl hc hw hv rfl hx)) (fun e t b2 b3 => br_f (fun q => e (hx.mp q)) (qd_71 hl hc hw hv rfl hx)))))
theorem qd_law (x0 x1 x2 x3 : Int32) : wpL_lawOf (fun r _ => r = 1) 30 464 () x0 x1 x2 x3 := by
  obtain ⟨l, hl, el⟩ := pk_andE x0 (m := 15) 4 (by decide)
  obtain ⟨w, hw, ew⟩ := pk_andE x1 (m := 7) 3 (by decide)
  have hl6 : l < 16 := hl
  have hw8 : w < 8 := hw
  refine ⟨by decide, by decide, 29, 457, by decide, by decide, ?_⟩
  refine ⟨by decide, by decide, by decide, by decide, by decide, by decide, nm_r el ?_⟩
  refine br_t (by decide) ⟨pk_in 0 20 (by omega), nm_e (nm_r (e' := 1) (by decide) (br_t rfl ?_))⟩
  rw [ew, qd_l1 l hl6]
  exact pk_eq w (l / 2) (fun e => qd_46 hl6 (qd_C_of hl6 _) hw8 ew ⟨fun _ => e.symm, fun _ => rfl⟩) (fun e => qd_46 hl6 (qd_C_of hl6 _) hw8 ew ⟨fun q => absurd q (by decide), fun q => absurd q.symm e⟩)
end
theorem qd_cell {P : Int32 → Prop} {L : Nat} {xs : Nat → Int32} {x : Int32} (c : Nat) (hL : L ≤ 4) (hc : c < 4) (hx : x = nI c) (h : ∀ y, P y) : wpL_cellAt P L xs () x := by
  rw [hx]
  exact pk_le L c (fun _ => h _) (fun z => ⟨pk_in c L z, h _⟩)
theorem i_vc (xs : Nat → Int32) (L : Nat) (hL : L ≤ 4) : wpL_law (fun r => r = 1) L xs :=
  qd_cell 0 hL (by decide) rfl (fun y0 => qd_cell 1 hL (by decide) rfl (fun y1 => qd_cell 2 hL (by decide) rfl (fun y2 => qd_cell 3 hL (by decide) rfl (fun y3 => ⟨30, 464, by decide, by decide, qd_law y0 y1 y2 y3⟩))))
end
