/-! SPECS 10: StringBuilder, of at most sixty chars, of one byte each or of two -/
set_option maxRecDepth 100000
theorem nI_bv (n : Nat) : (nI n).toBitVec = BitVec.ofNat 32 n := by
  unfold nI; rfl
theorem byA (y : Int32) : (y.toInt8.toInt32.toInt8.toInt32 &&& 255) = y &&& 255 := by
  rw [← Int32.toBitVec_inj]
  simp
  ext i hi
  simp only [BitVec.getElem_signExtend, BitVec.getElem_and]
  by_cases h8 : i < 8
  · simp [h8, BitVec.getElem_signExtend, hi]
  · have : (255#32)[i] = false := by
      rw [← BitVec.getLsbD_eq_getElem, BitVec.getLsbD_ofNat, show (255 : Nat) = 2 ^ 8 - 1 from rfl, Nat.testBit_two_pow_sub_one]
      simp [h8]
    rw [this]; simp
theorem byB (n : Nat) (h : n < 65536) : nI n >>> (8 &&& 31) = nI (n / 256) := by
  rw [← Int32.toBitVec_inj, show ((8 : Int32) &&& 31) = 8 from by decide, Int32.toBitVec_shiftRight, nI_bv, nI_bv]
  rw [show (Int32.toBitVec 8).smod 32 = 8#32 from by decide]
  rw [BitVec.sshiftRight_eq']
  rw [BitVec.sshiftRight_eq_of_msb_false]
  · apply BitVec.eq_of_toNat_eq
    simp [Nat.shiftRight_eq_div_pow]
    omega
  · rw [BitVec.msb_eq_decide]
    simp; omega
theorem byC (n : Nat) (h : n < 65536) : nI n &&& 255 = nI (n % 256) := by
  rw [← Int32.toBitVec_inj, Int32.toBitVec_and, nI_bv, nI_bv]
  apply BitVec.eq_of_toNat_eq
  simp
  rw [show (255 : Nat) = 2^8 - 1 from rfl, Nat.and_two_pow_sub_one_eq_mod]
  omega
theorem byD (n : Nat) (h : n < 65536) : ((nI n).toUInt32 % 65536).toInt32 = nI n := by
  rw [← Int32.toBitVec_inj, nI_bv]
  apply BitVec.eq_of_toNat_eq
  simp
  rw [nI_bv]
  simp
  omega
theorem byE (a b : Nat) (ha : a < 256) (hb : b < 256) : ((nI b <<< (0 &&& 31)) ||| (nI a <<< (8 &&& 31))) = nI (256 * a + b) := by
  rw [← Int32.toBitVec_inj, show ((8 : Int32) &&& 31) = 8 from by decide, show ((0 : Int32) &&& 31) = 0 from by decide, Int32.toBitVec_or, Int32.toBitVec_shiftLeft, Int32.toBitVec_shiftLeft, nI_bv, nI_bv, nI_bv]
  rw [show (Int32.toBitVec 8).smod 32 = 8#32 from by decide, show (Int32.toBitVec 0).smod 32 = 0#32 from by decide]
  apply BitVec.eq_of_toNat_eq
  simp
  rw [Nat.mod_eq_of_lt (show b < 4294967296 by omega), Nat.mod_eq_of_lt (show a < 4294967296 by omega), Nat.shiftLeft_eq, show a * 2 ^ 8 = 256 * a from by omega, Nat.mod_eq_of_lt (show 256 * a < 4294967296 by omega), Nat.mod_eq_of_lt (show 256 * a + b < 4294967296 by omega), Nat.or_comm]
  rw [show 256 * a = a <<< 8 from by rw [Nat.shiftLeft_eq]; omega]
  exact (Nat.shiftLeft_add_eq_or_of_lt (by omega) a).symm
theorem byF (n : Nat) (h : n < 65536) : narrow .char (.int (nI n)) = .int (nI n) := by
  show Value.int _ = Value.int _
  congr 1
  rw [← Int32.toBitVec_inj, nI_bv]
  apply BitVec.eq_of_toNat_eq
  simp
  rw [nI_bv]
  simp
  omega
theorem byL (n : Nat) (h : n < 65536) : ((nI n).toInt8.toInt32.toInt8.toInt32 &&& 255) = nI (n % 256) := by rw [byA, byC n h]
theorem sh0 (x : Int32) : x >>> (0 &&& 31) = x := by
  rw [show ((0 : Int32) &&& 31) = 0 from by decide]
  simp
theorem byLo (n : Nat) (h : n < 65536) : (((nI n >>> (0 &&& 31)).toInt8.toInt32).toInt8.toInt32 &&& 255) = nI (n % 256) := by
  rw [sh0, byL n h]
theorem byHi (n : Nat) (h : n < 65536) : (((nI n >>> (8 &&& 31)).toInt8.toInt32).toInt8.toInt32 &&& 255) = nI (n / 256) := by
  rw [byB n h, byL _ (by omega), Nat.mod_eq_of_lt (by omega)]
theorem shl1 (n : Nat) (h : n < 1000000) : nI n <<< (1 &&& 31) = nI (2 * n) := by
  rw [← Int32.toBitVec_inj, show ((1 : Int32) &&& 31) = 1 from by decide, Int32.toBitVec_shiftLeft, nI_bv, nI_bv, show (Int32.toBitVec 1).smod 32 = 1#32 from by decide]
  apply BitVec.eq_of_toNat_eq
  simp
  rw [Nat.mod_eq_of_lt (show n < 4294967296 by omega), Nat.shiftLeft_eq]
  omega
theorem upd_at (f : Nat → Int32) (k : Nat) (x : Int32) : upd f k x k = x := by simp [upd]
theorem upd_ne (f : Nat → Int32) {k j : Nat} (x : Int32) (h : j ≠ k) : upd f k x j = f j := by simp [upd, h]
def enc (cd n : Nat) (f : Nat → Int32) (X : List Nat) : Prop := (cd = 0 ∧ n = 60 ∧ ∀ (i c : Nat), X[i]? = some c → c < 256 ∧ (f i &&& 255) = nI c) ∨ (cd = 1 ∧ n = 120 ∧ ∀ (i c : Nat), X[i]? = some c → (f (2 * i) &&& 255) = nI (c % 256) ∧ (f (2 * i + 1) &&& 255) = nI (c / 256))
/-- a string builder that holds these chars -/
def SB (h : hp_) (p : Nat) (X : List Nat) : Prop := (∀ (i c : Nat), X[i]? = some c → c < 65536) ∧ X.length ≤ 60 ∧ ∃ va cd ml n f, hget h p = some (eO 13 [.ref va, .int (nI cd), .int ml, .int (nI X.length)]) ∧ hget h va = some (eB n f) ∧ enc cd n f X
/-- all but a string builder and the byte arrays is kept -/
def KS (p : Nat) (h h' : hp_) : Prop := ∀ q e, q ≠ p → (∀ n f, e ≠ eB n f) → hget h q = some e → hget h' q = some e
section D10
variable {G : g_} {h : hp_} {p : Nat} {X : List Nat}
theorem J5_length_ (S : SB h p X) : QE G M_J5_length [.ref p] h (nI X.length) := by
  obtain ⟨s1, s2, va, cd, ml, n, f, s3, s4⟩ := S
  exact e_J5_length ⟨cax s3, e_J4_length ⟨_, gfx s3 rfl rfl, _, rfl, _, rfl, rfl, rfl⟩⟩
theorem J6_ci_ {i n : Nat} (hi : i < n) (hn : n < 2 ^ 31) : Do_ G M_J6_checkIndex [.int (nI i), .int (nI n)] h (RV fun h' => h' = h) :=
  e_J6_checkIndex ((J9_ci hi hn).use ⟨rfl, rfl⟩)
theorem J7_length_ {va n : Nat} {f : Nat → Int32} (hn : n < 151) (A : hget h va = some (eB n f)) : QE G M_J7_length [.ref va] h (nI (n / 2)) := by
  refine e_J7_length ⟨n, alxB A, _, rfl, ?_, rfl⟩
  exact sh1 n hn
theorem J7_getChar_ {va i c : Nat} {f : Nat → Int32} (A : hget h va = some (eB 120 f)) (hi : i < 60) (hc : c < 65536) (h1 : (f (2 * i) &&& 255) = nI (c % 256)) (h2 : (f (2 * i + 1) &&& 255) = nI (c / 256)) : QE G M_J7_getChar [.ref va, .int (nI i)] h (nI c) := by
  have e2 : nI i <<< (1 &&& 31) = nI (2 * i) := shl1 i (by omega)
  have e3 : nI (2 * i) + 1 = nI (2 * i + 1) := nI_add' _ 1
  have e4 : ((((((f (2 * i)) &&& 255) <<< (0 &&& 31)) ||| (((f (2 * i + 1)) &&& 255) <<< (8 &&& 31))).toUInt32 % 65536).toInt32) = nI c := by
    rw [h1, h2, byE _ _ (by omega) (by omega), show 256 * (c / 256) + c % 256 = c from by omega, byD c hc]
  refine e_J7_getChar ⟨fun _ => ⟨120, f, 2 * i, A, by rw [e2]; exact ix_nI (by omega) (by omega), 120, f, 2 * i + 1, A, by rw [e2, e3]; exact ix_nI (by omega) (by omega), ?_, _, rfl, ?_⟩, fun c => absurd (by decide) c⟩
  · rw [e4]
    exact byF c hc
  · exact ⟨e4, rfl⟩
theorem J5_charAt_ {i c : Nat} (S : SB h p X) (hx : X[i]? = some c) : QE G M_J5_charAt [.ref p, .int (nI i)] h (nI c) := by
  obtain ⟨s1, s2, va, cd, ml, n, f, s3, s4, s5⟩ := S
  have hi : i < X.length := (List.getElem?_eq_some_iff.mp hx).1
  have hc := s1 i c hx
  refine e_J5_charAt ⟨cax s3, ?_⟩
  refine QE.use (x := nI c) ?_ ⟨byF c hc, _, rfl, rfl, rfl⟩
  rcases s5 with ⟨rfl, rfl, s5⟩ | ⟨rfl, rfl, s5⟩
  · refine e_J4_charAt ⟨_, gfx s3 rfl rfl, _, gfx s3 rfl rfl, _, gfx s3 rfl rfl, _, alxB s4, ?_⟩
    rw [show nI 60 >>> (nI 0 &&& 31) = nI 60 from by decide]
    refine (J11_min_ (by omega) (by omega)).use ((J6_ci_ (by omega) (by omega)).rv ?_)
    rintro _ - - rfl
    obtain ⟨k1, k2⟩ := s5 i c hx
    refine ⟨fun c => absurd rfl c, fun _ => ⟨_, _, i, s4, ix_nI (by omega) (by omega), ?_, _, rfl, ?_, rfl⟩⟩
    · rw [k2, byD c hc]
      exact byF c hc
    · rw [k2, byD c hc]
  · refine e_J4_charAt ⟨_, gfx s3 rfl rfl, _, gfx s3 rfl rfl, _, gfx s3 rfl rfl, _, alxB s4, ?_⟩
    rw [show nI 120 >>> (nI 1 &&& 31) = nI 60 from by decide]
    refine (J11_min_ (by omega) (by omega)).use ((J6_ci_ (by omega) (by omega)).rv ?_)
    rintro _ - - rfl
    obtain ⟨k1, k2⟩ := s5 i c hx
    exact ⟨fun _ => (J7_getChar_ s4 (by omega) hc k1 k2).use ⟨byF c hc, _, rfl, rfl, rfl⟩, fun c => absurd (by decide) c⟩
theorem J4_ens_ {k : Nat} (S : SB h p X) (hk : k ≤ 60) : Do_ G M_J4_ensureCapacityInternal [.ref p, .int (nI k)] h (RV fun h' => h' = h) := by
  obtain ⟨s1, s2, va, cd, ml, n, f, s3, s4, s5⟩ := S
  have key : nI k - nI 60 ≤ 0 := by
    have : ∀ k, k < 61 → nI k - nI 60 ≤ 0 := by decide +kernel
    exact this k (by omega)
  rcases s5 with ⟨rfl, rfl, s5⟩ | ⟨rfl, rfl, s5⟩
  · refine e_J4_ensureCapacityInternal ⟨_, gfx s3 rfl rfl, _, alxB s4, _, gfx s3 rfl rfl, fun _ => ⟨rfl, rfl⟩, fun c => ?_⟩
    rw [show nI 60 >>> (nI 0 &&& 31) = nI 60 from by decide] at c
    exact absurd key c
  · refine e_J4_ensureCapacityInternal ⟨_, gfx s3 rfl rfl, _, alxB s4, _, gfx s3 rfl rfl, fun _ => ⟨rfl, rfl⟩, fun c => ?_⟩
    rw [show nI 120 >>> (nI 1 &&& 31) = nI 60 from by decide] at c
    exact absurd key c
theorem J4_isL_ {va cd : Nat} {ml x : Int32} (hc : cd < 2) (s3 : hget h p = some (eO 13 [.ref va, .int (nI cd), .int ml, .int x])) : QE G M_J4_isLatin1 [.ref p] h (bI (decide (cd = 0))) := by
  refine e_J4_isLatin1 ⟨fun c => absurd c (by decide), fun _ => ⟨_, gfx s3 rfl rfl, fun c => ⟨nI_b0, _, rfl, ?_, rfl⟩, fun c => ⟨nI_b1, _, rfl, ?_, rfl⟩⟩⟩
  · have : cd ≠ 0 := fun e => c (by rw [e]; rfl)
    rw [decide_eq_false this]; rfl
  · have := (nI_eq' (a := cd) (b := 0) (by omega) (by omega)).mp (Classical.not_not.mp c)
    rw [decide_eq_true this]; rfl
theorem J5_setLength_ (S : SB h p X) : Do_ G M_J5_setLength [.ref p, .int 0] h (RV fun h' => SB h' p [] ∧ K1 p h h' ∧ hm h' = hm h) := by
  have he := J4_ens_ (G := G) (k := 0) S (by omega)
  obtain ⟨s1, s2, va, cd, ml, n, f, s3, s4, s5⟩ := S
  have s5' : enc cd n f [] := by
    rcases s5 with ⟨a, b, -⟩ | ⟨a, b, -⟩
    · exact Or.inl ⟨a, b, fun i c hx => by simp at hx⟩
    · exact Or.inr ⟨a, b, fun i c hx => by simp at hx⟩
  have hne : va ≠ p := hgn s4 s3 (by simp)
  refine e_J5_setLength ⟨cax s3, e_J4_setLength ⟨fun _ => ⟨cax s3, he.rv ?_⟩, fun c => absurd (by decide) c⟩⟩
  intro h9 _ _ e9; rw [e9]; clear e9
  refine ⟨_, gfx s3 rfl rfl, fun _ => ⟨_, gfx s3 rfl rfl, fun _ => ⟨_, pfx s3 rfl rfl rfl, rfl, rfl, ?_, ?_, ?_⟩, fun _ => ⟨⟨by decide, by decide⟩, _, pfx s3 rfl rfl rfl, _, pfx (hset_at _ _ _) rfl rfl rfl, rfl, rfl, ?_, ?_, ?_⟩⟩, fun c => absurd (nI_pos' (by omega)) c⟩
  · exact ⟨fun i c hx => by simp at hx, by simp, va, cd, ml, n, f, hset_at _ _ _, by rw [hset_ne _ _ hne]; exact s4, s5'⟩
  · intro q e h1 h2
    rw [hset_ne _ _ h1]; exact h2
  · exact hm_set _ _ _
  · exact ⟨fun i c hx => by simp at hx, by simp, va, cd, 1, n, f, hset_at _ _ _, by rw [hset_ne _ _ hne, hset_ne _ _ hne]; exact s4, s5'⟩
  · intro q e h1 h2
    rw [hset_ne _ _ h1, hset_ne _ _ h1]; exact h2
  · rw [hm_set, hm_set]
theorem J7_putChar_ {va i c : Nat} {f : Nat → Int32} (A : hget h va = some (eB 120 f)) (hi : i < 60) (hc : c < 65536) :
    Do_ G M_J7_putChar [.ref va, .int (nI i), .int (nI c)] h (RV fun h' => ∃ x y, h' = hset h va (eB 120 (upd (upd f (2 * i) x) (2 * i + 1) y)) ∧ (x &&& 255) = nI (c % 256) ∧ (y &&& 255) = nI (c / 256)) := by
  have e2 : nI i <<< (1 &&& 31) = nI (2 * i) := shl1 i (by omega)
  have e3 : nI (2 * i) + 1 = nI (2 * i + 1) := nI_add' _ 1
  refine e_J7_putChar ⟨fun _ => ⟨120, f, 2 * i, A, by rw [e2]; exact ix_nI (by omega) (by omega), 120, _, 2 * i + 1, hset_at _ _ _, by rw [e2, e3]; exact ix_nI (by omega) (by omega), rfl, _, _, hset_hset _ _ _ _, byLo c hc, byHi c hc⟩, fun c => absurd (by decide) c⟩
theorem J7_putCharSB_ {va i c : Nat} {f : Nat → Int32} (A : hget h va = some (eB 120 f)) (hi : i < 60) (hc : c < 65536) :
    Do_ G M_J7_putCharSB [.ref va, .int (nI i), .int (nI c)] h (RV fun h' => ∃ x y, h' = hset h va (eB 120 (upd (upd f (2 * i) x) (2 * i + 1) y)) ∧ (x &&& 255) = nI (c % 256) ∧ (y &&& 255) = nI (c / 256)) := by
  refine e_J7_putCharSB (Do_.rv (P := fun h' => h' = h) (e_J7_checkIndex ((J7_length_ (by omega) A).use ((J6_ci_ (n := 60) hi (by omega)).rv ?_))) ?_)
  · rintro _ - - rfl
    exact ⟨rfl, rfl⟩
  · intro h9 _ _ e9; rw [e9]; clear e9
    exact (J7_putChar_ A hi hc).rv fun h' _ _ k => ⟨rfl, k⟩
theorem J7_inflate_ {va vb k : Nat} {f g : Nat → Int32} (A : hget h va = some (eB 60 f)) (B : hget h vb = some (eB 120 g)) (hk : k ≤ 60) (hx : ∀ (i c : Nat), X[i]? = some c → c < 256 ∧ (f i &&& 255) = nI c) (hl : X.length = k) :
    Do_ G M_J7_inflate [.ref va, .int 0, .ref vb, .int 0, .int (nI k)] h (RV fun h' => ∃ g', h' = hset h vb (eB 120 g') ∧ ∀ (i c : Nat), X[i]? = some c → (g' (2 * i) &&& 255) = nI (c % 256) ∧ (g' (2 * i + 1) &&& 255) = nI (c / 256)) := by
  have hne : va ≠ vb := hgn A B (by simp)
  have key : ∀ (n i : Nat) (g1 : Nat → Int32), k - i = n → i ≤ k → (∀ j c, j < i → X[j]? = some c → (g1 (2 * j) &&& 255) = nI (c % 256) ∧ (g1 (2 * j + 1) &&& 255) = nI (c / 256)) →
      Go_ G M_J7_inflate 10 [some (.ref va), some (.int (nI i)), some (.ref vb), some (.int (nI i)), some (.int (nI k)), some (.int (nI i))] [] (hset h vb (eB 120 g1)) (RV fun h' => ∃ g', h' = hset h vb (eB 120 g') ∧ ∀ (i c : Nat), X[i]? = some c → (g' (2 * i) &&& 255) = nI (c % 256) ∧ (g' (2 * i + 1) &&& 255) = nI (c / 256)) := by
    intro n
    induction n with
    | zero =>
      intro i g1 hn hi b
      refine w_J7_inflate_10 ⟨fun _ => ⟨rfl, g1, rfl, fun j c hj => b j c ?_ hj⟩, fun c => absurd ((nI_le' (by omega) (by omega)).mpr (by omega)) c⟩
      have := (List.getElem?_eq_some_iff.mp hj).1
      omega
    | succ n ih =>
      intro i g1 hn hi b
      have hxi : X[i]? = some X[i] := List.getElem?_eq_getElem (by omega)
      obtain ⟨x1, x2⟩ := hx i _ hxi
      refine w_J7_inflate_10 ⟨fun c => ?_, fun _ => ⟨60, f, i, by rw [hset_ne _ _ hne]; exact A, ix_nI (by omega) (by omega), ?_⟩⟩
      · have := (nI_le' (by omega) (by omega)).mp c
        omega
      · rw [x2, show nI i + 1 = nI (i + 1) from nI_add' i 1]
        refine (J7_putChar_ (hset_at _ _ _) (by omega) (by omega)).rv ?_
        rintro _ - - ⟨x, y, rfl, y1, y2⟩
        rw [hset_hset]
        refine ih (i + 1) _ (by omega) (by omega) (fun j c hj hc => ?_)
        by_cases hji : j = i
        · subst hji
          rw [hxi] at hc
          cases hc
          rw [upd_ne _ _ (by omega), upd_at, upd_at]
          exact ⟨y1, y2⟩
        · rw [upd_ne _ _ (by omega), upd_ne _ _ (by omega), upd_ne _ _ (by omega), upd_ne _ _ (by omega)]
          exact b j c (by omega) hc
  refine e_J7_inflate (Do_.rv (P := fun h' => h' = h) (e_J7_checkBoundsOffCount ((J7_length_ (by omega) B).use (e_J6_checkBoundsOffCount (e_J9_checkFromIndexSize ⟨fun c => ?_, fun _ => ⟨fun _ => ⟨_, rfl, _, rfl, rfl, rfl⟩, fun c => ?_⟩⟩)))) ?_)
  · have : ∀ k, k < 61 → ¬ ((nI (120 / 2) ||| 0) ||| nI k) < 0 := by decide +kernel
    exact absurd c (this k (by omega))
  · have : ∀ k, k < 61 → nI k ≤ nI (120 / 2) - 0 := by decide +kernel
    exact absurd (this k (by omega)) c
  · intro h9 _ _ e9; rw [e9]; clear e9
    have e : hset h vb (eB 120 g) = h := by
      unfold hset
      refine Prod.ext (funext fun q => ?_) rfl
      by_cases hq : q = vb
      · subst hq; simp; exact B.symm
      · simp [hq]
    have := key k 0 g (by omega) (Nat.zero_le _) (fun j c hj => absurd hj (by omega))
    rw [e] at this
    exact this
theorem SB_snoc {h' : hp_} {va cd n c : Nat} {ml : Int32} {f : Nat → Int32} (s1 : ∀ (i c : Nat), X[i]? = some c → c < 65536) (hl : X.length < 60) (hc : c < 65536) (k1 : hget h' p = some (eO 13 [.ref va, .int (nI cd), .int ml, .int (nI (X.length + 1))])) (k2 : hget h' va = some (eB n f)) (k3 : enc cd n f (X ++ [c])) : SB h' p (X ++ [c]) := by
  refine ⟨fun i x hx => ?_, by rw [List.length_append, List.length_singleton]; omega, va, cd, ml, n, f, by rw [List.length_append]; exact k1, k2, k3⟩
  rw [List.getElem?_append] at hx
  by_cases hi : i < X.length
  · rw [if_pos hi] at hx
    exact s1 i x hx
  · rw [if_neg hi] at hx
    have : x = c := by
      rcases Nat.eq_zero_or_pos (i - X.length) with e | e
      · rw [e] at hx; exact (Option.some.inj hx).symm
      · rw [List.getElem?_eq_none (by simp; omega)] at hx; cases hx
    omega
theorem snoc_cases {α : Type} {X : List α} {c x : α} {i : Nat} (hx : (X ++ [c])[i]? = some x) : (i < X.length ∧ X[i]? = some x) ∨ (i = X.length ∧ x = c) := by
  rw [List.getElem?_append] at hx
  by_cases hi : i < X.length
  · rw [if_pos hi] at hx
    exact Or.inl ⟨hi, hx⟩
  · rw [if_neg hi] at hx
    rcases Nat.eq_zero_or_pos (i - X.length) with e | e
    · rw [e] at hx; exact Or.inr ⟨by omega, (Option.some.inj hx).symm⟩
    · rw [List.getElem?_eq_none (by simp; omega)] at hx; cases hx
theorem enc2 {c : Nat} {f : Nat → Int32} {x y : Int32} (s5 : ∀ (i c : Nat), X[i]? = some c → (f (2 * i) &&& 255) = nI (c % 256) ∧ (f (2 * i + 1) &&& 255) = nI (c / 256)) (h1 : (x &&& 255) = nI (c % 256)) (h2 : (y &&& 255) = nI (c / 256)) : enc 1 120 (upd (upd f (2 * X.length) x) (2 * X.length + 1) y) (X ++ [c]) := by
  refine Or.inr ⟨rfl, rfl, fun i z hz => ?_⟩
  rcases snoc_cases hz with ⟨a, b⟩ | ⟨rfl, rfl⟩
  · rw [upd_ne _ _ (by omega), upd_ne _ _ (by omega), upd_ne _ _ (by omega), upd_ne _ _ (by omega)]
    exact s5 i z b
  · rw [upd_ne _ _ (by omega), upd_at, upd_at]
    exact ⟨h1, h2⟩
theorem J4_inflate_ (hw : hwf h) {va : Nat} {ml : Int32} {f : Nat → Int32} (hl : X.length < 60) (s3 : hget h p = some (eO 13 [.ref va, .int (nI 0), .int ml, .int (nI X.length)])) (s4 : hget h va = some (eB 60 f)) (s5 : ∀ (i c : Nat), X[i]? = some c → c < 256 ∧ (f i &&& 255) = nI c) :
    Do_ G M_J4_inflate [.ref p] h (RV fun h' => ∃ f', hget h' p = some (eO 13 [.ref (hsz h), .int (nI 1), .int ml, .int (nI X.length)]) ∧ hget h' (hsz h) = some (eB 120 f') ∧ (∀ (i c : Nat), X[i]? = some c → (f' (2 * i) &&& 255) = nI (c % 256) ∧ (f' (2 * i + 1) &&& 255) = nI (c / 256)) ∧ KS p h h' ∧ hm h' = hm h + 121) := by
  have hp := hlt hw s3
  have s3' : ∀ z, hget (hnew h (eB 120 fun _ => 0) z) p = some (eO 13 [.ref va, .int (nI 0), .int ml, .int (nI X.length)]) := fun z => hnew_old hw s3
  refine e_J4_inflate ⟨cax s3, (J4_isL_ (by omega) s3).use ⟨fun _ => ⟨_, gfx s3 rfl rfl, _, alxB s4, e_J7_newBytesFor (e_J7_newBytesLength ⟨fun _ => ⟨fun _ => ⟨_, rfl, 120, by decide, by omega, _, rfl, _, gfx (s3' _) rfl rfl, _, gfx (s3' _) rfl rfl, e_J16_inflate ((J7_inflate_ (X := X) (hnew_old hw s4) (hnew_at _ _ _) (by omega) s5 rfl).rv ?_)⟩, fun c => absurd (by decide) c⟩, fun c => absurd (by decide) c⟩)⟩, fun c => absurd (by decide) c⟩⟩
  rintro _ - - ⟨g', rfl, k⟩
  have s3b : hget (hset (hnew h (eB 120 fun _ => 0) 120) (hsz h) (eB 120 g')) p = some (eO 13 [.ref va, .int (nI 0), .int ml, .int (nI X.length)]) := by
    rw [hset_ne _ _ (by omega)]; exact s3' _
  refine ⟨rfl, _, pfx s3b rfl rfl rfl, ⟨by decide, by decide⟩, _, pfx (hset_at _ _ _) rfl rfl rfl, rfl, g', hset_at _ _ _, ?_, k, ?_, ?_⟩
  · rw [hset_ne _ _ (by omega), hset_ne _ _ (by omega)]
    exact hset_at _ _ _
  · intro q e h1 h2 h3
    have := hlt hw h3
    rw [hset_ne _ _ h1, hset_ne _ _ h1, hset_ne _ _ (by omega)]
    exact hnew_old hw h3
  · rw [hm_set, hm_set, hm_set, hm_new]
theorem J5_append_ {c : Nat} (hw : hwf h) (S : SB h p X) (hl : X.length < 60) (hc : c < 65536) : Do_ G M_J5_append [.ref p, .int (nI c)] h (RN fun y h' => y = p ∧ SB h' p (X ++ [c]) ∧ KS p h h' ∧ hm h' ≤ hm h + 121) := by
  have he := J4_ens_ (G := G) (k := X.length + 1) S (by omega)
  obtain ⟨s1, s2, va, cd, ml, n, f, s3, s4, s5⟩ := S
  have hne : va ≠ p := hgn s4 s3 (by simp)
  have e1 : nI X.length + 1 = nI (X.length + 1) := nI_add' _ 1
  refine e_J5_append ⟨cax s3, Do_.rn (P := fun y h' => SB h' p (X ++ [c]) ∧ KS p h h' ∧ hm h' ≤ hm h + 121) ?_ (fun y h' _ _ q => ⟨_, rfl, rfl, q⟩)⟩
  refine e_J4_append ⟨_, gfx s3 rfl rfl, cax s3, ?_⟩
  rw [e1]
  refine he.rv ?_
  intro h9 _ _ e9; rw [e9]; clear e9
  -- the last steps, once there are two bytes each
  have two : ∀ (h1 : hp_) (vb : Nat) (g : Nat → Int32), hwf h1 → hget h1 p = some (eO 13 [.ref vb, .int (nI 1), .int ml, .int (nI X.length)]) → hget h1 vb = some (eB 120 g) → (∀ (i c : Nat), X[i]? = some c → (g (2 * i) &&& 255) = nI (c % 256) ∧ (g (2 * i + 1) &&& 255) = nI (c / 256)) → KS p h h1 → hm h1 ≤ hm h + 121 →
      ∃ a7, gf fd_J4_value h1 p = some (.ref a7) ∧ ∃ x8, gf fd_J4_count h1 p = some (.int x8) ∧ ∃ h9, pf fd_J4_count h1 p (.int (x8 + 1)) = some h9 ∧ Do_ G M_J7_putCharSB [.ref a7, .int x8, .int (nI c)] h9 (RV fun h10 => RN (fun y h' => SB h' p (X ++ [c]) ∧ KS p h h' ∧ hm h' ≤ hm h + 121) (.inl (some (.ref p))) h10) := by
    intro h1 vb g w1 a1 a2 a3 a4 a5
    have hn2 : vb ≠ p := hgn a2 a1 (by simp)
    refine ⟨_, gfx a1 rfl rfl, _, gfx a1 rfl rfl, _, pfx a1 rfl rfl rfl, (J7_putCharSB_ (f := g) (by rw [hset_ne _ _ hn2]; exact a2) hl hc).rv ?_⟩
    rintro _ - - ⟨x, y, rfl, y1, y2⟩
    refine ⟨_, rfl, SB_snoc (va := vb) (cd := 1) (n := 120) (ml := ml) s1 hl hc ?_ (hset_at _ _ _) (enc2 a3 y1 y2), ?_, ?_⟩
    · rw [hset_ne _ _ (Ne.symm hn2), hset_at, e1]; rfl
    · intro q e q1 q2 q3
      have z := a4 q e q1 q2 q3
      have hqv : q ≠ vb := fun e9 => by
        rw [e9, a2] at z
        exact q2 _ _ (Option.some.inj z).symm
      rw [hset_ne _ _ hqv, hset_ne _ _ q1]
      exact z
    · rw [hm_set, hm_set]; exact a5
  rcases s5 with ⟨rfl, rfl, s5⟩ | ⟨rfl, rfl, s5⟩
  · refine ⟨cax s3, (J4_isL_ (by omega) s3).use ⟨fun c => absurd c (by decide), fun _ => e_J16_canEncode ⟨fun c1 => ⟨nI_b0, _, rfl, fun _ => ⟨cax s3, (J4_isL_ (by omega) s3).use ⟨fun c => absurd c (by decide), fun _ => ⟨cax s3, (J4_inflate_ hw hl s3 s4 s5).rv ?_⟩⟩⟩, fun c => absurd rfl c⟩, fun c1 => ⟨nI_b1, _, rfl, fun c => absurd c (by decide), fun _ => ?_⟩⟩⟩⟩
    · rintro h1 w1 - ⟨f', a1, a2, a3, a4, a5⟩
      exact two h1 _ f' w1 a1 a2 a3 a4 (by omega)
    · have hc2 : c < 256 := by
        rcases Nat.lt_or_ge c 256 with q | q
        · exact q
        · exact absurd ((nI_lt' (a := 255) (by omega) (by omega)).mpr (by omega)) c1
      refine ⟨_, gfx s3 rfl rfl, _, gfx s3 rfl rfl, _, pfx s3 rfl rfl rfl, 60, f, X.length, by rw [hset_ne _ _ hne]; exact s4, ix_nI (by omega) (by omega), _, rfl, SB_snoc (va := va) (cd := 0) (n := 60) (ml := ml) s1 hl hc ?_ (hset_at _ _ _) ?_, ?_, ?_⟩
      · rw [hset_ne _ _ (Ne.symm hne), hset_at, e1]; rfl
      · refine Or.inl ⟨rfl, rfl, fun i z hz => ?_⟩
        rcases snoc_cases hz with ⟨a, b⟩ | ⟨rfl, rfl⟩
        · rw [upd_ne _ _ (by omega)]
          exact s5 i z b
        · rw [upd_at, byL _ hc, Nat.mod_eq_of_lt hc2]
          exact ⟨hc2, rfl⟩
      · intro q e q1 q2 q3
        have hqv : q ≠ va := fun e9 => by
          rw [e9, s4] at q3
          exact q2 _ _ (Option.some.inj q3).symm
        rw [hset_ne _ _ hqv, hset_ne _ _ q1]
        exact q3
      · rw [hm_set, hm_set]; omega
  · refine ⟨cax s3, (J4_isL_ (by omega) s3).use ⟨fun _ => ⟨cax s3, (J4_isL_ (by omega) s3).use ⟨fun _ => two h va f hw s3 s4 s5 (fun _ _ _ _ z => z) (by omega), fun c => absurd (by decide) c⟩⟩, fun c => absurd (by decide) c⟩⟩
theorem J5_init_ (hw : hwf h) {v0 : Value} {ml : Int32} (B : hget h p = some (eO 13 [v0, .int 0, .int ml, .int 0])) : Do_ G M_J5_init [.ref p, .int 60] h (RV fun h' => SB h' p [] ∧ K1 p h h' ∧ hm h' = hm h + 61) := by
  have hq := hlt hw B
  refine e_J5_init ⟨cax B, e_J4_init ⟨fun c => absurd c (by decide), fun _ => ⟨60, rfl, by omega, _, pfx (hnew_old hw B) rfl rfl rfl, ⟨by decide, by decide⟩, _, pfx (hset_at _ _ _) rfl rfl rfl, rfl, rfl, ⟨fun i c hx => by simp at hx, by simp, hsz h, 0, ml, 60, fun _ => 0, hset_at _ _ _, ?_, Or.inl ⟨rfl, rfl, fun i c hx => by simp at hx⟩⟩, ?_, ?_⟩⟩⟩
  · rw [hset_ne _ _ (by omega), hset_ne _ _ (by omega)]
    exact hnew_at _ _ _
  · intro z e h1 h2
    rw [hset_ne _ _ h1, hset_ne _ _ h1]
    exact hnew_old hw h2
  · rw [hm_set, hm_set, hm_new]
end D10
