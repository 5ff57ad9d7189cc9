theorem zz_t : True := trivial
