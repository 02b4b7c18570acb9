-- numbers of words: letters 1 .. 26 in some base
def en (B : Nat) (l : List Nat) : Nat := l.foldr (fun c v => v * B + c) 0
def wn (B : Nat) (w : Nm) : Nat := w.foldl (fun v c => v * B + c) 0
theorem wn_en (B : Nat) (w : Nm) : wn B w = en B w.reverse := List.foldl_eq_foldr_reverse
def gW (w : Nm) : Prop := w.length ≤ 8 ∧ ∀ c ∈ w, 1 ≤ c ∧ c ≤ 26
theorem en_inj {B : Nat} (hB : 26 < B) : ∀ (a b : List Nat), (∀ c ∈ a, 1 ≤ c ∧ c ≤ 26) → (∀ c ∈ b, 1 ≤ c ∧ c ≤ 26) → en B a = en B b → a = b
  | [], [], _, _, _ => rfl
  | [], c :: r, _, hb, h => by
    have := (hb c List.mem_cons_self).1
    have e : en B (c :: r) = en B r * B + c := rfl
    have e0 : en B [] = 0 := rfl
    omega
  | c :: r, [], ha, _, h => by
    have := (ha c List.mem_cons_self).1
    have e : en B (c :: r) = en B r * B + c := rfl
    have e0 : en B [] = 0 := rfl
    omega
  | c :: r, c' :: r', ha, hb, h => by
    have h1 := ha c List.mem_cons_self
    have h2 := hb c' List.mem_cons_self
    have e : en B r * B + c = en B r' * B + c' := h
    have m1 : (en B r * B + c) % B = c := by rw [Nat.mul_comm, Nat.mul_add_mod]; exact Nat.mod_eq_of_lt (by omega)
    have m2 : (en B r' * B + c') % B = c' := by rw [Nat.mul_comm, Nat.mul_add_mod]; exact Nat.mod_eq_of_lt (by omega)
    have hc : c = c' := by rw [← m1, ← m2, e]
    subst hc
    have hm : en B r * B = en B r' * B := by omega
    have := Nat.eq_of_mul_eq_mul_right (by omega) hm
    rw [en_inj hB r r' (fun x hx => ha x (List.mem_cons_of_mem _ hx)) (fun x hx => hb x (List.mem_cons_of_mem _ hx)) this]
theorem wn_inj {B : Nat} (hB : 26 < B) {a b : Nm} (ha : gW a) (hb : gW b) (h : wn B a = wn B b) : a = b := by
  rw [wn_en, wn_en] at h
  exact List.reverse_inj.mp (en_inj hB _ _ (fun c hc => ha.2 c (List.mem_reverse.mp hc)) (fun c hc => hb.2 c (List.mem_reverse.mp hc)) h)
theorem wn_lt' {B : Nat} (hB : 26 < B) : ∀ (w : Nm) (x : Nat), (∀ c ∈ w, c ≤ 26) → w.foldl (fun v c => v * B + c) x + 1 ≤ (x + 1) * B ^ w.length
  | [], x, _ => by simp
  | c :: r, x, h => by
    have h1 := h c List.mem_cons_self
    have ih := wn_lt' hB r (x * B + c) (fun y hy => h y (List.mem_cons_of_mem _ hy))
    refine Nat.le_trans ih ?_
    rw [List.length_cons, Nat.pow_succ, Nat.mul_comm (B ^ r.length) B, ← Nat.mul_assoc]
    refine Nat.mul_le_mul_right _ ?_
    rw [Nat.add_mul]
    omega
theorem wn_lt {B : Nat} (hB : 26 < B) (h32 : B ≤ 32) {w : Nm} (h : gW w) : wn B w < 2 ^ 40 := by
  have h1 := wn_lt' hB w 0 (fun c hc => (h.2 c hc).2)
  have h2 : B ^ w.length ≤ 32 ^ 8 := Nat.le_trans (Nat.pow_le_pow_left h32 _) (Nat.pow_le_pow_right (by decide) h.1)
  have h3 : (32 : Nat) ^ 8 = 2 ^ 40 := by decide
  unfold wn
  omega
def n5 (w : Nm) : Int64 := lN (wn 32 w)
def n27 (w : Nm) : Int64 := lN (wn 27 w)
theorem n5_inj {a b : Nm} (ha : gW a) (hb : gW b) : n5 a = n5 b ↔ a = b := ⟨fun h => wn_inj (by decide) ha hb ((pk_lEQ (Nat.lt_trans (wn_lt (by decide) (by decide) ha) (by decide)) (Nat.lt_trans (wn_lt (by decide) (by decide) hb) (by decide))).mp h), fun h => by rw [h]⟩
theorem n27_inj {a b : Nm} (ha : gW a) (hb : gW b) : n27 a = n27 b ↔ a = b := ⟨fun h => wn_inj (by decide) ha hb ((pk_lEQ (Nat.lt_trans (wn_lt (by decide) (by decide) ha) (by decide)) (Nat.lt_trans (wn_lt (by decide) (by decide) hb) (by decide))).mp h), fun h => by rw [h]⟩
def lo96 (w : List Nat) : Nm := w.map (fun x => x - 96)
theorem e5s_ok {x c : Nat} (hx : x < 2 ^ 58) (hc : 97 ≤ c ∧ c ≤ 122) : e5s (lN x) c = lN (x * 32 + (c - 96)) := by
  have e1 : lN x <<< (Int32.toInt64 5 &&& 63) = lN (x * 32) := wb_shl x (k := 5) (by decide)
  have e2 : (nI c - 97) + 1 = nI (c - 96) := by
    have : nI c - 97 = nI (c - 97) := pk_sub (a := c) (b := 97) hc.1
    rw [this, nI_1]
    congr 1
    omega
  unfold e5s
  rw [e1, e2, nI_l (by omega)]
  exact g_or (k := 5) (p := 32) (by decide) (by omega) (by omega)
theorem e5f_ok : ∀ (w : List Nat) (x : Nat), (∀ c ∈ w, 97 ≤ c ∧ c ≤ 122) → (x + 1) * 32 ^ w.length ≤ 2 ^ 58 → e5f (lN x) w = lN ((lo96 w).foldl (fun v c => v * 32 + c) x)
  | [], x, _, _ => rfl
  | c :: r, x, h, hb => by
    have h1 := h c List.mem_cons_self
    have hp : 0 < 32 ^ (c :: r).length := Nat.pow_pos (by decide)
    have hx : x + 1 ≤ 2 ^ 58 := Nat.le_trans (Nat.le_mul_of_pos_right _ hp) hb
    show e5f (e5s (lN x) c) r = _
    rw [e5s_ok (by omega) h1, e5f_ok r (x * 32 + (c - 96)) (fun y hy => h y (List.mem_cons_of_mem _ hy))]
    · rfl
    · refine Nat.le_trans ?_ hb
      rw [List.length_cons, Nat.pow_succ, Nat.mul_comm (32 ^ r.length) 32, ← Nat.mul_assoc]
      exact Nat.mul_le_mul_right _ (by omega)
theorem e5f_n5 {w : List Nat} (h : ∀ c ∈ w, 97 ≤ c ∧ c ≤ 122) (hl : w.length ≤ 8) : e5f 0 w = n5 (lo96 w) := by
  have := e5f_ok w 0 h (by
    have : 32 ^ w.length ≤ 32 ^ 8 := Nat.pow_le_pow_right (by decide) hl
    have h3 : (32 : Nat) ^ 8 = 2 ^ 40 := by decide
    omega)
  exact this
theorem gW_lo {w : List Nat} (h : ∀ c ∈ w, 97 ≤ c ∧ c ≤ 122) (hl : w.length ≤ 8) : gW (lo96 w) := by
  refine ⟨by simpa [lo96] using hl, fun c hc => ?_⟩
  obtain ⟨x, hx, rfl⟩ := List.mem_map.mp hc
  have := h x hx
  omega
-- the words of the language
def kwC : List (List Nat) := kwL.map (fun w => w.map (fun x => x + 96))
def stp (w : Int64) (s : Nat × Int64 × Nat) (c : Int32) : Nat × Int64 × Nat := if c = 32 then (s.1 + 1, 0, if s.2.1 = w then s.1 else s.2.2) else (s.1, (s.2.1 <<< (Int32.toInt64 5 &&& 63)) ||| (Int32.toInt64 ((c - 97) + 1)), s.2.2)
theorem stp_word (w : Int64) (k kd : Nat) : ∀ (cs : List Nat) (r : Int64), (∀ c ∈ cs, 97 ≤ c ∧ c ≤ 122) → (cs.map nI ++ [32]).foldl (stp w) (k, r, kd) = (k + 1, 0, if e5f r cs = w then k else kd)
  | [], r, _ => by
    show stp w (k, r, kd) 32 = _
    simp only [stp, if_true]
    exact Prod.ext rfl (Prod.ext rfl (by by_cases h : r = w <;> simp [e5f, h]))
  | c :: cs, r, h => by
    have h1 := h c List.mem_cons_self
    have hne : ¬ nI c = (32 : Int32) := fun e => by
      have := (nI_eq (a := c) (b := 32) (by omega) (by decide)).mp e
      omega
    show (cs.map nI ++ [32]).foldl (stp w) (stp w (k, r, kd) (nI c)) = _
    have e : stp w (k, r, kd) (nI c) = (k, e5s r c, kd) := by simp [stp, hne, e5s]
    rw [e, stp_word w k kd cs (e5s r c) (fun y hy => h y (List.mem_cons_of_mem _ hy))]
    rfl
theorem wBy_eq : wBy = (kwC.map (fun cs => cs.map nI ++ [32])).flatten := by decide +kernel
theorem stp_words {w : Nm} (hw : gW w) : ∀ (L : List (List Nat)) (k kd : Nat), (∀ cs ∈ L, (∀ c ∈ cs, 97 ≤ c ∧ c ≤ 122) ∧ cs.length ≤ 8) → (L.map lo96).Nodup →
    ((L.map (fun cs => cs.map nI ++ [32])).flatten.foldl (stp (n5 w)) (k, 0, kd)) = (k + L.length, 0, if w ∈ L.map lo96 then k + (L.map lo96).idxOf w else kd)
  | [], k, kd, _, _ => by simp
  | cs :: L, k, kd, h, hn => by
    have h1 := h cs List.mem_cons_self
    rw [List.map_cons, List.flatten_cons, List.foldl_append, stp_word _ _ _ cs 0 h1.1]
    have ih := stp_words hw L (k + 1) (if e5f 0 cs = n5 w then k else kd) (fun x hx => h x (List.mem_cons_of_mem _ hx)) (List.nodup_cons.mp (by simpa using hn)).2
    rw [ih]
    have hnm : lo96 cs ∉ L.map lo96 := (List.nodup_cons.mp (by simpa using hn)).1
    refine Prod.ext (by simp only [List.length_cons]; omega) (Prod.ext rfl ?_)
    simp only
    rw [List.map_cons, e5f_n5 h1.1 h1.2]
    by_cases e : lo96 cs = w
    · subst e
      rw [if_neg hnm, if_pos rfl, if_pos List.mem_cons_self, List.idxOf_cons_self]
      rfl
    · rw [if_neg (fun z => e ((n5_inj (gW_lo h1.1 h1.2) hw).mp z)), show (lo96 cs :: L.map lo96).idxOf w = (L.map lo96).idxOf w + 1 by rw [List.idxOf_cons, beq_false_of_ne e]; rfl]
      by_cases hm : w ∈ L.map lo96
      · rw [if_pos hm, if_pos (List.mem_cons_of_mem _ hm)]
        omega
      · rw [if_neg hm, if_neg (fun z => by rcases List.mem_cons.mp z with z | z; exact e z.symm; exact hm z)]
theorem kwC_lo : kwC.map lo96 = kwL := by decide +kernel
theorem stp_all {w : Nm} (hw : gW w) : (wBy.foldl (stp (n5 w)) (0, 0, 20)).2.2 = kwL.idxOf w := by
  have h := stp_words hw kwC 0 20 (by decide +kernel) (by decide +kernel)
  rw [← wBy_eq, kwC_lo] at h
  rw [h]
  by_cases hm : w ∈ kwL
  · simp only [if_pos hm]; omega
  · simp only [if_neg hm]
    rw [List.idxOf_eq_length hm]
    rfl
