/-! the getters of a picture over its setters -/
theorem gpk_i (P : Pic) (f a : Nat) (v : Int32) : p_k (s_i P f a v) = p_k P := rfl
theorem gpk_l (P : Pic) (f a : Nat) (v : Int64) : p_k (s_l P f a v) = p_k P := rfl
theorem gpk_r (P : Pic) (f a : Nat) (v : Option Nat) : p_k (s_r P f a v) = p_k P := rfl
theorem gpk_ai (P : Pic) (f a : Nat) (v : Int32) : p_k (s_ai P f a v) = p_k P := rfl
theorem gpk_al (P : Pic) (f a : Nat) (v : Int64) : p_k (s_al P f a v) = p_k P := rfl
theorem gpk_aq (P : Pic) (f a : Nat) (v : Option Nat) : p_k (s_aq P f a v) = p_k P := rfl
theorem gpk_new (P : Pic) (q k b : Nat) : p_k (s_new P q k) b = if b = q then k + 1 else p_k P b := rfl
theorem gpk_arr (P : Pic) (q t c b : Nat) : p_k (s_arr P q t c) b = if b = q then t + 101 else p_k P b := rfl
theorem gpk_cpy (P : Pic) (a0 a sp dp n : Nat) : p_k (s_cpy P a0 a sp dp n) = p_k P := rfl
theorem gpi_i (P : Pic) (f a : Nat) (v : Int32) (x b : Nat) : p_i (s_i P f a v) x b = if x = f ∧ b = a then v else p_i P x b := rfl
theorem gpi_l (P : Pic) (f a : Nat) (v : Int64) : p_i (s_l P f a v) = p_i P := rfl
theorem gpi_r (P : Pic) (f a : Nat) (v : Option Nat) : p_i (s_r P f a v) = p_i P := rfl
theorem gpi_ai (P : Pic) (f a : Nat) (v : Int32) : p_i (s_ai P f a v) = p_i P := rfl
theorem gpi_al (P : Pic) (f a : Nat) (v : Int64) : p_i (s_al P f a v) = p_i P := rfl
theorem gpi_aq (P : Pic) (f a : Nat) (v : Option Nat) : p_i (s_aq P f a v) = p_i P := rfl
theorem gpi_new (P : Pic) (q k f b : Nat) : p_i (s_new P q k) f b = if b = q then 0 else p_i P f b := rfl
theorem gpi_arr (P : Pic) (q t c : Nat) : p_i (s_arr P q t c) = p_i P := rfl
theorem gpi_cpy (P : Pic) (a0 a sp dp n : Nat) : p_i (s_cpy P a0 a sp dp n) = p_i P := rfl
theorem gpl_i (P : Pic) (f a : Nat) (v : Int32) : p_l (s_i P f a v) = p_l P := rfl
theorem gpl_l (P : Pic) (f a : Nat) (v : Int64) (x b : Nat) : p_l (s_l P f a v) x b = if x = f ∧ b = a then v else p_l P x b := rfl
theorem gpl_r (P : Pic) (f a : Nat) (v : Option Nat) : p_l (s_r P f a v) = p_l P := rfl
theorem gpl_ai (P : Pic) (f a : Nat) (v : Int32) : p_l (s_ai P f a v) = p_l P := rfl
theorem gpl_al (P : Pic) (f a : Nat) (v : Int64) : p_l (s_al P f a v) = p_l P := rfl
theorem gpl_aq (P : Pic) (f a : Nat) (v : Option Nat) : p_l (s_aq P f a v) = p_l P := rfl
theorem gpl_new (P : Pic) (q k f b : Nat) : p_l (s_new P q k) f b = if b = q then 0 else p_l P f b := rfl
theorem gpl_arr (P : Pic) (q t c : Nat) : p_l (s_arr P q t c) = p_l P := rfl
theorem gpl_cpy (P : Pic) (a0 a sp dp n : Nat) : p_l (s_cpy P a0 a sp dp n) = p_l P := rfl
theorem gpr_i (P : Pic) (f a : Nat) (v : Int32) : p_r (s_i P f a v) = p_r P := rfl
theorem gpr_l (P : Pic) (f a : Nat) (v : Int64) : p_r (s_l P f a v) = p_r P := rfl
theorem gpr_r (P : Pic) (f a : Nat) (v : Option Nat) (x b : Nat) : p_r (s_r P f a v) x b = if x = f ∧ b = a then v else p_r P x b := rfl
theorem gpr_ai (P : Pic) (f a : Nat) (v : Int32) : p_r (s_ai P f a v) = p_r P := rfl
theorem gpr_al (P : Pic) (f a : Nat) (v : Int64) : p_r (s_al P f a v) = p_r P := rfl
theorem gpr_aq (P : Pic) (f a : Nat) (v : Option Nat) : p_r (s_aq P f a v) = p_r P := rfl
theorem gpr_new (P : Pic) (q k f b : Nat) : p_r (s_new P q k) f b = if b = q then none else p_r P f b := rfl
theorem gpr_arr (P : Pic) (q t c : Nat) : p_r (s_arr P q t c) = p_r P := rfl
theorem gpr_cpy (P : Pic) (a0 a sp dp n : Nat) : p_r (s_cpy P a0 a sp dp n) = p_r P := rfl
theorem gpn_i (P : Pic) (f a : Nat) (v : Int32) : p_n (s_i P f a v) = p_n P := rfl
theorem gpn_l (P : Pic) (f a : Nat) (v : Int64) : p_n (s_l P f a v) = p_n P := rfl
theorem gpn_r (P : Pic) (f a : Nat) (v : Option Nat) : p_n (s_r P f a v) = p_n P := rfl
theorem gpn_ai (P : Pic) (f a : Nat) (v : Int32) : p_n (s_ai P f a v) = p_n P := rfl
theorem gpn_al (P : Pic) (f a : Nat) (v : Int64) : p_n (s_al P f a v) = p_n P := rfl
theorem gpn_aq (P : Pic) (f a : Nat) (v : Option Nat) : p_n (s_aq P f a v) = p_n P := rfl
theorem gpn_new (P : Pic) (q k : Nat) : p_n (s_new P q k) = p_n P := rfl
theorem gpn_arr (P : Pic) (q t c b : Nat) : p_n (s_arr P q t c) b = if b = q then c else p_n P b := rfl
theorem gpn_cpy (P : Pic) (a0 a sp dp n : Nat) : p_n (s_cpy P a0 a sp dp n) = p_n P := rfl
theorem gpai_i (P : Pic) (f a : Nat) (v : Int32) : p_ai (s_i P f a v) = p_ai P := rfl
theorem gpai_l (P : Pic) (f a : Nat) (v : Int64) : p_ai (s_l P f a v) = p_ai P := rfl
theorem gpai_r (P : Pic) (f a : Nat) (v : Option Nat) : p_ai (s_r P f a v) = p_ai P := rfl
theorem gpai_ai (P : Pic) (f a : Nat) (v : Int32) (x b : Nat) : p_ai (s_ai P f a v) x b = if x = f ∧ b = a then v else p_ai P x b := rfl
theorem gpai_al (P : Pic) (f a : Nat) (v : Int64) : p_ai (s_al P f a v) = p_ai P := rfl
theorem gpai_aq (P : Pic) (f a : Nat) (v : Option Nat) : p_ai (s_aq P f a v) = p_ai P := rfl
theorem gpai_new (P : Pic) (q k : Nat) : p_ai (s_new P q k) = p_ai P := rfl
theorem gpai_arr (P : Pic) (q t c b j : Nat) : p_ai (s_arr P q t c) b j = if b = q then 0 else p_ai P b j := rfl
theorem gpai_cpy (P : Pic) (a0 a sp dp n : Nat) : p_ai (s_cpy P a0 a sp dp n) = p_ai P := rfl
theorem gpal_i (P : Pic) (f a : Nat) (v : Int32) : p_al (s_i P f a v) = p_al P := rfl
theorem gpal_l (P : Pic) (f a : Nat) (v : Int64) : p_al (s_l P f a v) = p_al P := rfl
theorem gpal_r (P : Pic) (f a : Nat) (v : Option Nat) : p_al (s_r P f a v) = p_al P := rfl
theorem gpal_ai (P : Pic) (f a : Nat) (v : Int32) : p_al (s_ai P f a v) = p_al P := rfl
theorem gpal_al (P : Pic) (f a : Nat) (v : Int64) (x b : Nat) : p_al (s_al P f a v) x b = if x = f ∧ b = a then v else p_al P x b := rfl
theorem gpal_aq (P : Pic) (f a : Nat) (v : Option Nat) : p_al (s_aq P f a v) = p_al P := rfl
theorem gpal_new (P : Pic) (q k : Nat) : p_al (s_new P q k) = p_al P := rfl
theorem gpal_arr (P : Pic) (q t c b j : Nat) : p_al (s_arr P q t c) b j = if b = q then 0 else p_al P b j := rfl
theorem gpal_cpy (P : Pic) (a0 a sp dp n : Nat) : p_al (s_cpy P a0 a sp dp n) = p_al P := rfl
theorem gpaq_i (P : Pic) (f a : Nat) (v : Int32) : p_aq (s_i P f a v) = p_aq P := rfl
theorem gpaq_l (P : Pic) (f a : Nat) (v : Int64) : p_aq (s_l P f a v) = p_aq P := rfl
theorem gpaq_r (P : Pic) (f a : Nat) (v : Option Nat) : p_aq (s_r P f a v) = p_aq P := rfl
theorem gpaq_ai (P : Pic) (f a : Nat) (v : Int32) : p_aq (s_ai P f a v) = p_aq P := rfl
theorem gpaq_al (P : Pic) (f a : Nat) (v : Int64) : p_aq (s_al P f a v) = p_aq P := rfl
theorem gpaq_aq (P : Pic) (f a : Nat) (v : Option Nat) (x b : Nat) : p_aq (s_aq P f a v) x b = if x = f ∧ b = a then v else p_aq P x b := rfl
theorem gpaq_new (P : Pic) (q k : Nat) : p_aq (s_new P q k) = p_aq P := rfl
theorem gpaq_arr (P : Pic) (q t c b j : Nat) : p_aq (s_arr P q t c) b j = if b = q then none else p_aq P b j := rfl
theorem gpaq_cpy (P : Pic) (a0 a sp dp n b j : Nat) : p_aq (s_cpy P a0 a sp dp n) b j = if b = a then va_cpy (p_aq P a0) (p_aq P a) sp dp n j else p_aq P b j := rfl
theorem gpz_i (P : Pic) (f a : Nat) (v : Int32) : p_z (s_i P f a v) = p_z P := rfl
theorem gpz_l (P : Pic) (f a : Nat) (v : Int64) : p_z (s_l P f a v) = p_z P := rfl
theorem gpz_r (P : Pic) (f a : Nat) (v : Option Nat) : p_z (s_r P f a v) = p_z P := rfl
theorem gpz_ai (P : Pic) (f a : Nat) (v : Int32) : p_z (s_ai P f a v) = p_z P := rfl
theorem gpz_al (P : Pic) (f a : Nat) (v : Int64) : p_z (s_al P f a v) = p_z P := rfl
theorem gpz_aq (P : Pic) (f a : Nat) (v : Option Nat) : p_z (s_aq P f a v) = p_z P := rfl
theorem gpz_new (P : Pic) (q k : Nat) : p_z (s_new P q k) = q + 1 := rfl
theorem gpz_arr (P : Pic) (q t c : Nat) : p_z (s_arr P q t c) = q + 1 := rfl
theorem gpz_cpy (P : Pic) (a0 a sp dp n : Nat) : p_z (s_cpy P a0 a sp dp n) = p_z P := rfl
theorem gpm_i (P : Pic) (f a : Nat) (v : Int32) : p_m (s_i P f a v) = p_m P := rfl
theorem gpm_l (P : Pic) (f a : Nat) (v : Int64) : p_m (s_l P f a v) = p_m P := rfl
theorem gpm_r (P : Pic) (f a : Nat) (v : Option Nat) : p_m (s_r P f a v) = p_m P := rfl
theorem gpm_ai (P : Pic) (f a : Nat) (v : Int32) : p_m (s_ai P f a v) = p_m P := rfl
theorem gpm_al (P : Pic) (f a : Nat) (v : Int64) : p_m (s_al P f a v) = p_m P := rfl
theorem gpm_aq (P : Pic) (f a : Nat) (v : Option Nat) : p_m (s_aq P f a v) = p_m P := rfl
theorem gpm_new (P : Pic) (q k : Nat) : p_m (s_new P q k) = p_m P := rfl
theorem gpm_arr (P : Pic) (q t c : Nat) : p_m (s_arr P q t c) = p_m P := rfl
theorem gpm_cpy (P : Pic) (a0 a sp dp n : Nat) : p_m (s_cpy P a0 a sp dp n) = p_m P := rfl
