section
theorem wb_tb (n : Nat) : (lN n).toBitVec = BitVec.ofNat 64 n := rfl
theorem wb_inj {a b : Int64} (h : a.toBitVec = b.toBitVec) : a = b := Int64.toBitVec_inj.mp h
theorem wb_tn {n : Nat} (h : n < 2 ^ 64) : (lN n).toBitVec.toNat = n := by rw [wb_tb, BitVec.toNat_ofNat, Nat.mod_eq_of_lt h]
theorem wb_of (x : Int64) : ∃ n, n < 2 ^ 64 ∧ x = lN n := ⟨x.toBitVec.toNat, x.toBitVec.isLt, wb_inj (by rw [wb_tb]; simp)⟩
theorem wb_cu : ∀ k, k < 64 → ((nI k).toInt64.toUInt64 &&& Int64.toUInt64 63) = UInt64.ofNat k := by decide +kernel
theorem wb_shr {n k : Nat} (hn : n < 2 ^ 64) (hk : k < 64) : ((lN n).toUInt64 >>> ((nI k).toInt64.toUInt64 &&& Int64.toUInt64 63)).toInt64 = lN (n / 2 ^ k) := by
  rw [wb_cu k hk]
  apply wb_inj
  apply BitVec.eq_of_toNat_eq
  show ((lN n).toUInt64 >>> UInt64.ofNat k).toNat = (BitVec.ofNat 64 _).toNat
  have h1 : (UInt64.ofNat k).toNat = k := by
    show (BitVec.ofNat 64 k).toNat = k
    rw [BitVec.toNat_ofNat, Nat.mod_eq_of_lt (by omega)]
  have h2 : (lN n).toUInt64.toNat = n := wb_tn hn
  rw [UInt64.toNat_shiftRight, h1, h2, Nat.mod_eq_of_lt hk, Nat.shiftRight_eq_div_pow, BitVec.toNat_ofNat, Nat.mod_eq_of_lt (Nat.lt_of_le_of_lt (Nat.div_le_self _ _) hn)]
end
section
/-- the length that made reads off the bits -/
def md_len (b : Int64) : Int32 := ((b.toUInt64 >>> ((61 : Int32).toInt64.toUInt64 &&& Int64.toUInt64 63)).toInt64).toInt32
/-- the number that made puts at a place -/
def md_el (b : Int64) (i : Nat) : Int32 := (((b.toUInt64 >>> ((7 * nI i).toInt64.toUInt64 &&& Int64.toUInt64 63)).toInt64).toInt32) &&& 2147483647
/-- the sum of the first places -/
def md_sum (a : Nat → Int32) : Nat → Int32
  | 0 => 0
  | n + 1 => md_sum a n + a n
theorem md_len_ok (b : Int64) : ∃ n : Nat, n ≤ 7 ∧ md_len b = nI n := by
  obtain ⟨n, hn, rfl⟩ := wb_of b
  refine ⟨n / 2 ^ 61, by omega, ?_⟩
  have h := wb_shr (k := 61) hn (by decide)
  have h' : ((lN n).toUInt64 >>> ((61 : Int32).toInt64.toUInt64 &&& Int64.toUInt64 63)).toInt64 = lN (n / 2 ^ 61) := h
  unfold md_len
  rw [h', lN_i]
theorem md_el_pos (b : Int64) (i : Nat) : 0 ≤ md_el b i := by
  unfold md_el
  rw [pk_and _ 31 (by decide)]
  exact nI_pos' (Nat.mod_lt _ (by decide))
theorem md_fill {f s : Nat → Int32} {i k : Nat} {x : Int32} (hk : k = i) (h : ∀ j, j < i → s j = f j) (hx : x = f i) : ∀ j, j < i + 1 → upd s k x j = f j := by
  intro j hj
  rw [hk]
  by_cases e : j = i
  · rw [e, pk_us, hx]
  · rw [pk_un e]
    exact h j (by omega)
/-- made: as many places as the bits say, each the bits' number -/
theorem md_made {post : St4 → Prop} {mc ms : Nat} {u : St0} {b : Int64} (hc : 1 ≤ mc) (hs : 7 ≤ ms)
    (H : ∀ (a : Nat → Int32) (n : Nat), n ≤ 7 → md_len b = nI n → (∀ j, j < n → a j = md_el b j) → post (a, n)) : wpL_made post mc ms u b := by
  obtain ⟨n, hn, hl⟩ := md_len_ok b
  have hl' : ((b.toUInt64 >>> ((61 : Int32).toInt64.toUInt64 &&& Int64.toUInt64 63)).toInt64).toInt32 = nI n := hl
  unfold wpL_made
  rw [hl']
  refine ⟨nI_pos (by omega), nm_r (nI_clamp (by omega)) ⟨by omega, hc, by omega, ?_⟩⟩
  exact pk_loop (fun m i s => wL_made_10 post mc ms b 1 (0 + n) n m (nI i) s) (fun i s => ∀ j, j < i → s j = md_el b j) n 0 (fun _ => 0) (by omega) (fun j hj => absurd hj (by omega))
    (fun m s h => pk_le n n (fun _ => H s n hn hl h) (fun z => absurd z (by omega)))
    (fun m i s hi h hw => pk_le n i (fun z => absurd z (by omega)) (fun _ => ⟨pk_in i n hi, nm_e (nm_r (nI_1 i) (hw _ (md_fill (nI_clamp (by omega)) h rfl)))⟩))
/-- the class's addAll: from the first place to the last -/
theorem md_x7 {post : Int32 → St5 → Prop} {t : Int32} {a : Nat → Int32} {n : Nat} (hn : n ≤ 7) (hp : ∀ j, j < n → 0 ≤ a j)
    (H : post (t + md_sum a n) (t + md_sum a n, a, n)) : wpX7_addAll post (t, a, n) := by
  unfold wpX7_addAll
  refine nm_e ?_
  refine pk_loop (fun m i s => wX7_addAll_8 post (nI n) m (nI i) s a n) (fun i s => s = t + md_sum a i) n 0 t (by omega) (by show t = t + 0; grind) ?_ ?_
  · intro m s h
    have h' : s = t + md_sum a n := h
    subst h'
    exact pk_le n n (fun _ => H) (fun z => absurd z (by omega))
  · intro m i s hi h hw
    refine pk_le n i (fun z => absurd z (by omega)) (fun _ => ⟨pk_in i n hi, nm_r (by rw [nI_clamp (by omega)]) (br_t (hp i hi) (nm_e (nm_r (nI_1 i) (hw _ ?_))))⟩)
    have h' : s = t + md_sum a i := h
    rw [h']
    show t + md_sum a i + a i = t + (md_sum a i + a i)
    grind
/-- the twin's addAll: from the last place to the first -/
theorem md_x8 {post : Int32 → St5 → Prop} {t : Int32} {a : Nat → Int32} {n : Nat} (hn : n ≤ 7) (hp : ∀ j, j < n → 0 ≤ a j)
    (H : post (t + md_sum a n) (t + md_sum a n, a, n)) : wpX8_addAll post (t, a, n) := by
  unfold wpX8_addAll
  dsimp only
  unfold wpX2_read
  refine nm_e ⟨n + 1, ?_⟩
  refine pk_loopD (σ := Int32 × Int32) (fun m i s => wX8_addAll_18 post t m s.1 (nI i - 1) s.2 a n) (fun i s => i ≤ n ∧ s.1 + md_sum a i = md_sum a n ∧ s.2 = t + s.1) ?_ ?_ n (0, t) ⟨Nat.le_refl n, ?_, ?_⟩
  · rintro m ⟨x, f⟩ ⟨_, h1, h2⟩
    have e1 : x = md_sum a n := by
      rw [← h1]
      show x = x + 0
      grind
    have e2 : f = t + x := h2
    subst e2
    rw [← e1] at H
    exact br_t (by decide) H
  · rintro m i ⟨x, f⟩ ⟨h0, h1, h2⟩ hw
    have e2 : f = t + x := h2
    have h1' : x + (md_sum a i + a i) = md_sum a n := h1
    show wX8_addAll_18 post t (m + 1) x (nI (i + 1) - 1) f a n
    rw [nI_pred]
    refine br_f (nI_pos (by omega)) ⟨pk_in i n (by omega), nm_r (e' := x + a i) (by rw [nI_clamp (by omega)]) ⟨pk_in i n (by omega), ?_⟩⟩
    rw [nI_clamp (by omega)]
    refine br_t (hp i (by omega)) (nm_e (nm_r (show nI i + (-1) = nI i - 1 by grind) (hw (x + a i, f + a i) ⟨by omega, ?_, ?_⟩)))
    · show x + a i + md_sum a i = md_sum a n
      rw [← h1']
      grind
    · show f + a i = t + (x + a i)
      rw [e2]
      grind
  · show 0 + md_sum a n = md_sum a n
    grind
  · show t = t + 0
    grind
/-- the law's own loop: the two arrays agree -/
theorem md_103 {post : Int32 → St0 → Prop} {mc ms kc ks : Nat} {a b : Nat → Int32} {n : Nat} (hn : n ≤ 7) (hab : ∀ j, j < n → a j = b j)
    (H : post 1 ()) : ∃ m, wL_lawOf_103 post mc ms kc ks a n b n m 0 :=
  pk_loop (σ := Unit) (fun m i _ => wL_lawOf_103 post mc ms kc ks a n b n m (nI i)) (fun _ _ => True) n 0 () (by omega) trivial
    (fun m _ _ => pk_le n n (fun _ => H) (fun z => absurd z (by omega)))
    (fun m i _ hi _ hw => pk_le n i (fun z => absurd z (by omega)) (fun _ => ⟨pk_in i n hi, pk_in i n hi, br_t (by rw [nI_clamp (by omega)]; exact hab i hi) (nm_r (nI_1 i) (hw () trivial))⟩))
theorem md_sumC {a b : Nat → Int32} {n : Nat} (h : ∀ j, j < n → a j = b j) : md_sum a n = md_sum b n := by
  induction n with
  | zero => rfl
  | succ n ih =>
    show md_sum a n + a n = md_sum b n + b n
    rw [ih (fun j hj => h j (by omega)), h n (by omega)]
/-- the law over one start and one row of bits -/
theorem md_lawOf {post : Int32 → St0 → Prop} {mc ms : Nat} {u : St0} {t : Int32} {b : Int64} (hc : 6 ≤ mc) (hs : 18 ≤ ms) (H : post 1 ()) : wpL_lawOf post mc ms u t b := by
  refine ⟨by omega, by omega, by omega, by omega, ?_⟩
  refine ⟨by omega, by omega, by omega, by omega, ?_⟩
  refine ⟨1, 7, by omega, by omega, md_made (by omega) (by omega) (fun a n hn hl ha => ?_)⟩
  refine ⟨1, 7, by omega, by omega, md_made (by omega) (by omega) (fun a' n' hn' hl' ha' => ?_)⟩
  have en : n' = n := (nI_eq (by omega) (by omega)).mp (hl'.symm.trans hl)
  subst en
  have hab : ∀ j, j < n' → a j = a' j := fun j hj => (ha j hj).trans (ha' j hj).symm
  refine md_x7 hn (fun j hj => by rw [ha j hj]; exact md_el_pos b j) ?_
  refine md_x8 hn (fun j hj => by rw [ha' j hj]; exact md_el_pos b j) ?_
  refine br_t (by rw [md_sumC hab]) (br_t rfl (br_t rfl ?_))
  exact md_103 hn hab H
end
section
/-- a cell of the script is read: whatever it is, the law goes on -/
theorem md_cell {post : Int32 → Prop} {L : Nat} {xs : Nat → Int32} {u : St0} (k : Nat) (hL : L ≤ 3) (hk : k ≤ 2) (H : ∀ r, post r) : wpL_cellAt post L xs u (nI k) :=
  pk_le L k (fun _ => H 0) (fun z => ⟨pk_in k L z, H _⟩)
theorem i_vc (xs : Nat → Int32) (L : Nat) (hL : L ≤ 3) : wpL_law (fun r => r = 1) L xs :=
  md_cell 0 hL (by decide) (fun _ => md_cell 1 hL (by decide) (fun _ => md_cell 2 hL (by decide) (fun _ => ⟨10, 160, by decide, by decide, md_lawOf (by decide) (by decide) rfl⟩)))
end
