/-! what a store leaves alone, as rewriting rows -/
theorem pk_i (P : Pic) (f a : Nat) (v : Int32) : p_k (s_i P f a v) = p_k P := rfl
theorem pk_l (P : Pic) (f a : Nat) (v : Int64) : p_k (s_l P f a v) = p_k P := rfl
theorem pk_r (P : Pic) (f a : Nat) (v : Option Nat) : p_k (s_r P f a v) = p_k P := rfl
theorem pk_ai (P : Pic) (a j : Nat) (v : Int32) : p_k (s_ai P a j v) = p_k P := rfl
theorem pk_al (P : Pic) (a j : Nat) (v : Int64) : p_k (s_al P a j v) = p_k P := rfl
theorem pk_aq (P : Pic) (a j : Nat) (v : Option Nat) : p_k (s_aq P a j v) = p_k P := rfl
theorem pk_cpy (P : Pic) (a0 a sp dp n : Nat) : p_k (s_cpy P a0 a sp dp n) = p_k P := rfl
theorem pk_newq (P : Pic) (q k : Nat) : p_k (s_new P q k) q = k + 1 := up_eq
theorem pk_arrq (P : Pic) (q t n : Nat) : p_k (s_arr P q t n) q = t + 101 := up_eq
